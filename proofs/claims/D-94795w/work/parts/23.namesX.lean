/-! FiveTouch$Yard -/
set_option maxRecDepth 100000
def RX1 : String := "FiveTouch$Yard"
def TX1 : u_T := fun k => match k with
  | 0 => ("FiveTouch$Yard", "laws", "Ljava/util/ArrayList;", true)
  | 1 => ("FiveTouch$Yard", "stones", "Ljava/util/ArrayList;", true)
  | 2 => ("FiveTouch$Yard", "spares", "Ljava/util/ArrayList;", true)
  | 3 => ("FiveTouch$Yard", "terms", "[I", true)
  | 4 => ("FiveTouch$Yard", "there", "I", false)
  | _ => ("FiveTouch$Yard", "inForce", "I", false)
def tyX1 : Nat → FieldType := fun k => match k with
  | 0 => .object "java/util/ArrayList"
  | 1 => .object "java/util/ArrayList"
  | 2 => .object "java/util/ArrayList"
  | 3 => .array .int
  | 4 => .int
  | _ => .int
abbrev wsX10 : List Cond := u_ws RX1 TX1 6
theorem nmX1 : ∀ a, a < 6 → ∀ b, b < 6 → a ≠ b → (TX1 a).2.1 ≠ (TX1 b).2.1 := by decide +kernel
theorem tyX1_ok : ∀ k, k < 6 → parseFieldDescriptor (TX1 k).2.2.1 = some (tyX1 k) := by decide +kernel
abbrev cX1_init : ByteArray := prog_23_method_1_code
def yX1_init : MethodName := ⟨RX1, "<init>", "()V"⟩
def dkwX1_init_2 : List UInt8 := [5, 79, 89, 5, 4, 79, 181, 0, 24, 42, 2, 181, 0, 28, 177]
abbrev dktX1_init_2 : List UInt8 := dkwX1_init_2 ++ []
def dkwX1_init_1 : List UInt8 := [181, 0, 18, 42, 187, 0, 9, 89, 183, 0, 11, 181, 0, 21, 42, 6, 188, 10, 89, 3, 8, 79, 89, 4]
abbrev dktX1_init_1 : List UInt8 := dkwX1_init_1 ++ dktX1_init_2
def dkwX1_init_0 : List UInt8 := [42, 183, 0, 3, 42, 187, 0, 9, 89, 183, 0, 11, 181, 0, 12, 42, 187, 0, 9, 89, 183, 0, 11]
abbrev dktX1_init_0 : List UInt8 := dkwX1_init_0 ++ dktX1_init_1
theorem dksX1_init_0 : cX1_init.data.toList.drop 0 = dktX1_init_0 := by decide +kernel
theorem dksX1_init_1 : cX1_init.data.toList.drop 23 = dktX1_init_1 := dk_seg dksX1_init_0 23 rfl rfl
theorem dksX1_init_2 : cX1_init.data.toList.drop 47 = dktX1_init_2 := dk_seg dksX1_init_1 24 rfl rfl
theorem dX1_init_0 : decode cX1_init 0 = .ok (.aload_n 0, 1) := dk_42 (dk_at dksX1_init_0 0 rfl rfl)
theorem dX1_init_1 : decode cX1_init 1 = .ok (.invokespecial 3, 3) := dk_183 0 3 (dk_at dksX1_init_0 1 rfl rfl)
theorem dX1_init_4 : decode cX1_init 4 = .ok (.aload_n 0, 1) := dk_42 (dk_at dksX1_init_0 4 rfl rfl)
theorem dX1_init_5 : decode cX1_init 5 = .ok (.new 9, 3) := dk_187 0 9 (dk_at dksX1_init_0 5 rfl rfl)
theorem dX1_init_8 : decode cX1_init 8 = .ok (.dup, 1) := dk_89 (dk_at dksX1_init_0 8 rfl rfl)
theorem dX1_init_9 : decode cX1_init 9 = .ok (.invokespecial 11, 3) := dk_183 0 11 (dk_at dksX1_init_0 9 rfl rfl)
theorem dX1_init_12 : decode cX1_init 12 = .ok (.putfield 12, 3) := dk_181 0 12 (dk_at dksX1_init_0 12 rfl rfl)
theorem dX1_init_15 : decode cX1_init 15 = .ok (.aload_n 0, 1) := dk_42 (dk_at dksX1_init_0 15 rfl rfl)
theorem dX1_init_16 : decode cX1_init 16 = .ok (.new 9, 3) := dk_187 0 9 (dk_at dksX1_init_0 16 rfl rfl)
theorem dX1_init_19 : decode cX1_init 19 = .ok (.dup, 1) := dk_89 (dk_at dksX1_init_0 19 rfl rfl)
theorem dX1_init_20 : decode cX1_init 20 = .ok (.invokespecial 11, 3) := dk_183 0 11 (dk_at dksX1_init_0 20 rfl rfl)
theorem dX1_init_23 : decode cX1_init 23 = .ok (.putfield 18, 3) := dk_181 0 18 (dk_at dksX1_init_1 0 rfl rfl)
theorem dX1_init_26 : decode cX1_init 26 = .ok (.aload_n 0, 1) := dk_42 (dk_at dksX1_init_1 3 rfl rfl)
theorem dX1_init_27 : decode cX1_init 27 = .ok (.new 9, 3) := dk_187 0 9 (dk_at dksX1_init_1 4 rfl rfl)
theorem dX1_init_30 : decode cX1_init 30 = .ok (.dup, 1) := dk_89 (dk_at dksX1_init_1 7 rfl rfl)
theorem dX1_init_31 : decode cX1_init 31 = .ok (.invokespecial 11, 3) := dk_183 0 11 (dk_at dksX1_init_1 8 rfl rfl)
theorem dX1_init_34 : decode cX1_init 34 = .ok (.putfield 21, 3) := dk_181 0 21 (dk_at dksX1_init_1 11 rfl rfl)
theorem dX1_init_37 : decode cX1_init 37 = .ok (.aload_n 0, 1) := dk_42 (dk_at dksX1_init_1 14 rfl rfl)
theorem dX1_init_38 : decode cX1_init 38 = .ok (.iconst 3, 1) := dk_6 (dk_at dksX1_init_1 15 rfl rfl)
theorem dX1_init_39 : decode cX1_init 39 = .ok (.newarray .int, 2) := dk_188_10 (dk_at dksX1_init_1 16 rfl rfl)
theorem dX1_init_41 : decode cX1_init 41 = .ok (.dup, 1) := dk_89 (dk_at dksX1_init_1 18 rfl rfl)
theorem dX1_init_42 : decode cX1_init 42 = .ok (.iconst 0, 1) := dk_3 (dk_at dksX1_init_1 19 rfl rfl)
theorem dX1_init_43 : decode cX1_init 43 = .ok (.iconst 5, 1) := dk_8 (dk_at dksX1_init_1 20 rfl rfl)
theorem dX1_init_44 : decode cX1_init 44 = .ok (.iastore, 1) := dk_79 (dk_at dksX1_init_1 21 rfl rfl)
theorem dX1_init_45 : decode cX1_init 45 = .ok (.dup, 1) := dk_89 (dk_at dksX1_init_1 22 rfl rfl)
theorem dX1_init_46 : decode cX1_init 46 = .ok (.iconst 1, 1) := dk_4 (dk_at dksX1_init_1 23 rfl rfl)
theorem dX1_init_47 : decode cX1_init 47 = .ok (.iconst 2, 1) := dk_5 (dk_at dksX1_init_2 0 rfl rfl)
theorem dX1_init_48 : decode cX1_init 48 = .ok (.iastore, 1) := dk_79 (dk_at dksX1_init_2 1 rfl rfl)
theorem dX1_init_49 : decode cX1_init 49 = .ok (.dup, 1) := dk_89 (dk_at dksX1_init_2 2 rfl rfl)
theorem dX1_init_50 : decode cX1_init 50 = .ok (.iconst 2, 1) := dk_5 (dk_at dksX1_init_2 3 rfl rfl)
theorem dX1_init_51 : decode cX1_init 51 = .ok (.iconst 1, 1) := dk_4 (dk_at dksX1_init_2 4 rfl rfl)
theorem dX1_init_52 : decode cX1_init 52 = .ok (.iastore, 1) := dk_79 (dk_at dksX1_init_2 5 rfl rfl)
theorem dX1_init_53 : decode cX1_init 53 = .ok (.putfield 24, 3) := dk_181 0 24 (dk_at dksX1_init_2 6 rfl rfl)
theorem dX1_init_56 : decode cX1_init 56 = .ok (.aload_n 0, 1) := dk_42 (dk_at dksX1_init_2 9 rfl rfl)
theorem dX1_init_57 : decode cX1_init 57 = .ok (.iconst (-1), 1) := dk_2 (dk_at dksX1_init_2 10 rfl rfl)
theorem dX1_init_58 : decode cX1_init 58 = .ok (.putfield 28, 3) := dk_181 0 28 (dk_at dksX1_init_2 11 rfl rfl)
theorem dX1_init_61 : decode cX1_init 61 = .ok (.return_, 1) := dk_177 (dk_at dksX1_init_2 14 rfl rfl)
abbrev cX1_isFree : ByteArray := prog_23_method_5_code
def yX1_isFree : MethodName := ⟨RX1, "isFree", "(LFiveTouch$Stone;)Z"⟩
def dkwX1_isFree_1 : List UInt8 := [182, 0, 66, 153, 0, 5, 3, 172, 132, 2, 1, 167, 255, 225, 4, 172]
abbrev dktX1_isFree_1 : List UInt8 := dkwX1_isFree_1 ++ []
def dkwX1_isFree_0 : List UInt8 := [3, 61, 28, 16, 22, 162, 0, 31, 42, 28, 182, 0, 62, 198, 0, 17, 42, 28, 182, 0, 62, 43]
abbrev dktX1_isFree_0 : List UInt8 := dkwX1_isFree_0 ++ dktX1_isFree_1
theorem dksX1_isFree_0 : cX1_isFree.data.toList.drop 0 = dktX1_isFree_0 := by decide +kernel
theorem dksX1_isFree_1 : cX1_isFree.data.toList.drop 22 = dktX1_isFree_1 := dk_seg dksX1_isFree_0 22 rfl rfl
theorem dX1_isFree_0 : decode cX1_isFree 0 = .ok (.iconst 0, 1) := dk_3 (dk_at dksX1_isFree_0 0 rfl rfl)
theorem dX1_isFree_1 : decode cX1_isFree 1 = .ok (.istore_n 2, 1) := dk_61 (dk_at dksX1_isFree_0 1 rfl rfl)
theorem dX1_isFree_2 : decode cX1_isFree 2 = .ok (.iload_n 2, 1) := dk_28 (dk_at dksX1_isFree_0 2 rfl rfl)
theorem dX1_isFree_3 : decode cX1_isFree 3 = .ok (.bipush 22, 2) := dk_16 22 (dk_at dksX1_isFree_0 3 rfl rfl)
theorem dX1_isFree_5 : decode cX1_isFree 5 = .ok (.if_icmp .ge 31, 3) := dk_162 0 31 (dk_at dksX1_isFree_0 5 rfl rfl)
theorem dX1_isFree_8 : decode cX1_isFree 8 = .ok (.aload_n 0, 1) := dk_42 (dk_at dksX1_isFree_0 8 rfl rfl)
theorem dX1_isFree_9 : decode cX1_isFree 9 = .ok (.iload_n 2, 1) := dk_28 (dk_at dksX1_isFree_0 9 rfl rfl)
theorem dX1_isFree_10 : decode cX1_isFree 10 = .ok (.invokevirtual 62, 3) := dk_182 0 62 (dk_at dksX1_isFree_0 10 rfl rfl)
theorem dX1_isFree_13 : decode cX1_isFree 13 = .ok (.ifnull 17, 3) := dk_198 0 17 (dk_at dksX1_isFree_0 13 rfl rfl)
theorem dX1_isFree_16 : decode cX1_isFree 16 = .ok (.aload_n 0, 1) := dk_42 (dk_at dksX1_isFree_0 16 rfl rfl)
theorem dX1_isFree_17 : decode cX1_isFree 17 = .ok (.iload_n 2, 1) := dk_28 (dk_at dksX1_isFree_0 17 rfl rfl)
theorem dX1_isFree_18 : decode cX1_isFree 18 = .ok (.invokevirtual 62, 3) := dk_182 0 62 (dk_at dksX1_isFree_0 18 rfl rfl)
theorem dX1_isFree_21 : decode cX1_isFree 21 = .ok (.aload_n 1, 1) := dk_43 (dk_at dksX1_isFree_0 21 rfl rfl)
theorem dX1_isFree_22 : decode cX1_isFree 22 = .ok (.invokevirtual 66, 3) := dk_182 0 66 (dk_at dksX1_isFree_1 0 rfl rfl)
theorem dX1_isFree_25 : decode cX1_isFree 25 = .ok (.ifCond .eq 5, 3) := dk_153 0 5 (dk_at dksX1_isFree_1 3 rfl rfl)
theorem dX1_isFree_28 : decode cX1_isFree 28 = .ok (.iconst 0, 1) := dk_3 (dk_at dksX1_isFree_1 6 rfl rfl)
theorem dX1_isFree_29 : decode cX1_isFree 29 = .ok (.ireturn, 1) := dk_172 (dk_at dksX1_isFree_1 7 rfl rfl)
theorem dX1_isFree_30 : decode cX1_isFree 30 = .ok (.iinc 2 1, 3) := dk_132 2 1 (dk_at dksX1_isFree_1 8 rfl rfl)
theorem dX1_isFree_33 : decode cX1_isFree 33 = .ok (.goto (-31), 3) := dk_167 255 225 (dk_at dksX1_isFree_1 11 rfl rfl)
theorem dX1_isFree_36 : decode cX1_isFree 36 = .ok (.iconst 1, 1) := dk_4 (dk_at dksX1_isFree_1 14 rfl rfl)
theorem dX1_isFree_37 : decode cX1_isFree 37 = .ok (.ireturn, 1) := dk_172 (dk_at dksX1_isFree_1 15 rfl rfl)
abbrev cX1_of : ByteArray := prog_23_method_4_code
def yX1_of : MethodName := ⟨RX1, "of", "(I)LFiveTouch$Stone;"⟩
def dkwX1_of_2 : List UInt8 := [162, 0, 20, 42, 180, 0, 21, 27, 16, 14, 100, 182, 0, 37, 192, 0, 47, 167, 0, 4, 1, 176]
abbrev dktX1_of_2 : List UInt8 := dkwX1_of_2 ++ []
def dkwX1_of_1 : List UInt8 := [182, 0, 37, 192, 0, 47, 167, 0, 4, 1, 176, 27, 16, 14, 100, 42, 180, 0, 21, 182, 0, 33]
abbrev dktX1_of_1 : List UInt8 := dkwX1_of_1 ++ dktX1_of_2
def dkwX1_of_0 : List UInt8 := [27, 16, 14, 162, 0, 30, 27, 42, 180, 0, 18, 182, 0, 33, 162, 0, 17, 42, 180, 0, 18, 27]
abbrev dktX1_of_0 : List UInt8 := dkwX1_of_0 ++ dktX1_of_1
theorem dksX1_of_0 : cX1_of.data.toList.drop 0 = dktX1_of_0 := by decide +kernel
theorem dksX1_of_1 : cX1_of.data.toList.drop 22 = dktX1_of_1 := dk_seg dksX1_of_0 22 rfl rfl
theorem dksX1_of_2 : cX1_of.data.toList.drop 44 = dktX1_of_2 := dk_seg dksX1_of_1 22 rfl rfl
theorem dX1_of_0 : decode cX1_of 0 = .ok (.iload_n 1, 1) := dk_27 (dk_at dksX1_of_0 0 rfl rfl)
theorem dX1_of_1 : decode cX1_of 1 = .ok (.bipush 14, 2) := dk_16 14 (dk_at dksX1_of_0 1 rfl rfl)
theorem dX1_of_3 : decode cX1_of 3 = .ok (.if_icmp .ge 30, 3) := dk_162 0 30 (dk_at dksX1_of_0 3 rfl rfl)
theorem dX1_of_6 : decode cX1_of 6 = .ok (.iload_n 1, 1) := dk_27 (dk_at dksX1_of_0 6 rfl rfl)
theorem dX1_of_7 : decode cX1_of 7 = .ok (.aload_n 0, 1) := dk_42 (dk_at dksX1_of_0 7 rfl rfl)
theorem dX1_of_8 : decode cX1_of 8 = .ok (.getfield 18, 3) := dk_180 0 18 (dk_at dksX1_of_0 8 rfl rfl)
theorem dX1_of_11 : decode cX1_of 11 = .ok (.invokevirtual 33, 3) := dk_182 0 33 (dk_at dksX1_of_0 11 rfl rfl)
theorem dX1_of_14 : decode cX1_of 14 = .ok (.if_icmp .ge 17, 3) := dk_162 0 17 (dk_at dksX1_of_0 14 rfl rfl)
theorem dX1_of_17 : decode cX1_of 17 = .ok (.aload_n 0, 1) := dk_42 (dk_at dksX1_of_0 17 rfl rfl)
theorem dX1_of_18 : decode cX1_of 18 = .ok (.getfield 18, 3) := dk_180 0 18 (dk_at dksX1_of_0 18 rfl rfl)
theorem dX1_of_21 : decode cX1_of 21 = .ok (.iload_n 1, 1) := dk_27 (dk_at dksX1_of_0 21 rfl rfl)
theorem dX1_of_22 : decode cX1_of 22 = .ok (.invokevirtual 37, 3) := dk_182 0 37 (dk_at dksX1_of_1 0 rfl rfl)
theorem dX1_of_25 : decode cX1_of 25 = .ok (.checkcast 47, 3) := dk_192 0 47 (dk_at dksX1_of_1 3 rfl rfl)
theorem dX1_of_28 : decode cX1_of 28 = .ok (.goto 4, 3) := dk_167 0 4 (dk_at dksX1_of_1 6 rfl rfl)
theorem dX1_of_31 : decode cX1_of 31 = .ok (.aconst_null, 1) := dk_1 (dk_at dksX1_of_1 9 rfl rfl)
theorem dX1_of_32 : decode cX1_of 32 = .ok (.areturn, 1) := dk_176 (dk_at dksX1_of_1 10 rfl rfl)
theorem dX1_of_33 : decode cX1_of 33 = .ok (.iload_n 1, 1) := dk_27 (dk_at dksX1_of_1 11 rfl rfl)
theorem dX1_of_34 : decode cX1_of 34 = .ok (.bipush 14, 2) := dk_16 14 (dk_at dksX1_of_1 12 rfl rfl)
theorem dX1_of_36 : decode cX1_of 36 = .ok (.isub, 1) := dk_100 (dk_at dksX1_of_1 14 rfl rfl)
theorem dX1_of_37 : decode cX1_of 37 = .ok (.aload_n 0, 1) := dk_42 (dk_at dksX1_of_1 15 rfl rfl)
theorem dX1_of_38 : decode cX1_of 38 = .ok (.getfield 21, 3) := dk_180 0 21 (dk_at dksX1_of_1 16 rfl rfl)
theorem dX1_of_41 : decode cX1_of 41 = .ok (.invokevirtual 33, 3) := dk_182 0 33 (dk_at dksX1_of_1 19 rfl rfl)
theorem dX1_of_44 : decode cX1_of 44 = .ok (.if_icmp .ge 20, 3) := dk_162 0 20 (dk_at dksX1_of_2 0 rfl rfl)
theorem dX1_of_47 : decode cX1_of 47 = .ok (.aload_n 0, 1) := dk_42 (dk_at dksX1_of_2 3 rfl rfl)
theorem dX1_of_48 : decode cX1_of 48 = .ok (.getfield 21, 3) := dk_180 0 21 (dk_at dksX1_of_2 4 rfl rfl)
theorem dX1_of_51 : decode cX1_of 51 = .ok (.iload_n 1, 1) := dk_27 (dk_at dksX1_of_2 7 rfl rfl)
theorem dX1_of_52 : decode cX1_of 52 = .ok (.bipush 14, 2) := dk_16 14 (dk_at dksX1_of_2 8 rfl rfl)
theorem dX1_of_54 : decode cX1_of 54 = .ok (.isub, 1) := dk_100 (dk_at dksX1_of_2 10 rfl rfl)
theorem dX1_of_55 : decode cX1_of 55 = .ok (.invokevirtual 37, 3) := dk_182 0 37 (dk_at dksX1_of_2 11 rfl rfl)
theorem dX1_of_58 : decode cX1_of 58 = .ok (.checkcast 47, 3) := dk_192 0 47 (dk_at dksX1_of_2 14 rfl rfl)
theorem dX1_of_61 : decode cX1_of 61 = .ok (.goto 4, 3) := dk_167 0 4 (dk_at dksX1_of_2 17 rfl rfl)
theorem dX1_of_64 : decode cX1_of 64 = .ok (.aconst_null, 1) := dk_1 (dk_at dksX1_of_2 20 rfl rfl)
theorem dX1_of_65 : decode cX1_of 65 = .ok (.areturn, 1) := dk_176 (dk_at dksX1_of_2 21 rfl rfl)
abbrev cX1_law : ByteArray := prog_23_method_3_code
def yX1_law : MethodName := ⟨RX1, "law", "(LFiveTouch$Text;)LFiveTouch$Text;"⟩
def dkwX1_law_1 : List UInt8 := [192, 0, 41, 176]
abbrev dktX1_law_1 : List UInt8 := dkwX1_law_1 ++ []
def dkwX1_law_0 : List UInt8 := [42, 180, 0, 28, 2, 160, 0, 7, 43, 167, 0, 17, 42, 180, 0, 12, 42, 180, 0, 28, 182, 0, 37]
abbrev dktX1_law_0 : List UInt8 := dkwX1_law_0 ++ dktX1_law_1
theorem dksX1_law_0 : cX1_law.data.toList.drop 0 = dktX1_law_0 := by decide +kernel
theorem dksX1_law_1 : cX1_law.data.toList.drop 23 = dktX1_law_1 := dk_seg dksX1_law_0 23 rfl rfl
theorem dX1_law_0 : decode cX1_law 0 = .ok (.aload_n 0, 1) := dk_42 (dk_at dksX1_law_0 0 rfl rfl)
theorem dX1_law_1 : decode cX1_law 1 = .ok (.getfield 28, 3) := dk_180 0 28 (dk_at dksX1_law_0 1 rfl rfl)
theorem dX1_law_4 : decode cX1_law 4 = .ok (.iconst (-1), 1) := dk_2 (dk_at dksX1_law_0 4 rfl rfl)
theorem dX1_law_5 : decode cX1_law 5 = .ok (.if_icmp .ne 7, 3) := dk_160 0 7 (dk_at dksX1_law_0 5 rfl rfl)
theorem dX1_law_8 : decode cX1_law 8 = .ok (.aload_n 1, 1) := dk_43 (dk_at dksX1_law_0 8 rfl rfl)
theorem dX1_law_9 : decode cX1_law 9 = .ok (.goto 17, 3) := dk_167 0 17 (dk_at dksX1_law_0 9 rfl rfl)
theorem dX1_law_12 : decode cX1_law 12 = .ok (.aload_n 0, 1) := dk_42 (dk_at dksX1_law_0 12 rfl rfl)
theorem dX1_law_13 : decode cX1_law 13 = .ok (.getfield 12, 3) := dk_180 0 12 (dk_at dksX1_law_0 13 rfl rfl)
theorem dX1_law_16 : decode cX1_law 16 = .ok (.aload_n 0, 1) := dk_42 (dk_at dksX1_law_0 16 rfl rfl)
theorem dX1_law_17 : decode cX1_law 17 = .ok (.getfield 28, 3) := dk_180 0 28 (dk_at dksX1_law_0 17 rfl rfl)
theorem dX1_law_20 : decode cX1_law 20 = .ok (.invokevirtual 37, 3) := dk_182 0 37 (dk_at dksX1_law_0 20 rfl rfl)
theorem dX1_law_23 : decode cX1_law 23 = .ok (.checkcast 41, 3) := dk_192 0 41 (dk_at dksX1_law_1 0 rfl rfl)
theorem dX1_law_26 : decode cX1_law 26 = .ok (.areturn, 1) := dk_176 (dk_at dksX1_law_1 3 rfl rfl)
abbrev cX1_copy : ByteArray := prog_23_method_2_code
def yX1_copy : MethodName := ⟨RX1, "copy", "()LFiveTouch$Yard;"⟩
def dkwX1_copy_7 : List UInt8 := [176]
abbrev dktX1_copy_7 : List UInt8 := dkwX1_copy_7 ++ []
def dkwX1_copy_6 : List UInt8 := [180, 0, 24, 190, 184, 0, 53, 43, 42, 180, 0, 59, 181, 0, 59, 43, 42, 180, 0, 28, 181, 0, 28, 43]
abbrev dktX1_copy_6 : List UInt8 := dkwX1_copy_6 ++ dktX1_copy_7
def dkwX1_copy_5 : List UInt8 := [182, 0, 49, 182, 0, 43, 87, 132, 2, 1, 167, 255, 220, 42, 180, 0, 24, 3, 43, 180, 0, 24, 3, 42]
abbrev dktX1_copy_5 : List UInt8 := dkwX1_copy_5 ++ dktX1_copy_6
def dkwX1_copy_4 : List UInt8 := [180, 0, 21, 182, 0, 33, 162, 0, 31, 43, 180, 0, 21, 42, 180, 0, 21, 28, 182, 0, 37, 192, 0, 47]
abbrev dktX1_copy_4 : List UInt8 := dkwX1_copy_4 ++ dktX1_copy_5
def dkwX1_copy_3 : List UInt8 := [182, 0, 37, 192, 0, 47, 182, 0, 49, 182, 0, 43, 87, 132, 2, 1, 167, 255, 220, 3, 61, 28, 42]
abbrev dktX1_copy_3 : List UInt8 := dkwX1_copy_3 ++ dktX1_copy_4
def dkwX1_copy_2 : List UInt8 := [3, 61, 28, 42, 180, 0, 18, 182, 0, 33, 162, 0, 31, 43, 180, 0, 18, 42, 180, 0, 18, 28]
abbrev dktX1_copy_2 : List UInt8 := dkwX1_copy_2 ++ dktX1_copy_3
def dkwX1_copy_1 : List UInt8 := [180, 0, 12, 42, 180, 0, 12, 28, 182, 0, 37, 192, 0, 41, 182, 0, 43, 87, 132, 2, 1, 167, 255, 223]
abbrev dktX1_copy_1 : List UInt8 := dkwX1_copy_1 ++ dktX1_copy_2
def dkwX1_copy_0 : List UInt8 := [187, 0, 13, 89, 183, 0, 32, 76, 3, 61, 28, 42, 180, 0, 12, 182, 0, 33, 162, 0, 28, 43]
abbrev dktX1_copy_0 : List UInt8 := dkwX1_copy_0 ++ dktX1_copy_1
theorem dksX1_copy_0 : cX1_copy.data.toList.drop 0 = dktX1_copy_0 := by decide +kernel
theorem dksX1_copy_1 : cX1_copy.data.toList.drop 22 = dktX1_copy_1 := dk_seg dksX1_copy_0 22 rfl rfl
theorem dksX1_copy_2 : cX1_copy.data.toList.drop 46 = dktX1_copy_2 := dk_seg dksX1_copy_1 24 rfl rfl
theorem dksX1_copy_3 : cX1_copy.data.toList.drop 68 = dktX1_copy_3 := dk_seg dksX1_copy_2 22 rfl rfl
theorem dksX1_copy_4 : cX1_copy.data.toList.drop 91 = dktX1_copy_4 := dk_seg dksX1_copy_3 23 rfl rfl
theorem dksX1_copy_5 : cX1_copy.data.toList.drop 115 = dktX1_copy_5 := dk_seg dksX1_copy_4 24 rfl rfl
theorem dksX1_copy_6 : cX1_copy.data.toList.drop 139 = dktX1_copy_6 := dk_seg dksX1_copy_5 24 rfl rfl
theorem dksX1_copy_7 : cX1_copy.data.toList.drop 163 = dktX1_copy_7 := dk_seg dksX1_copy_6 24 rfl rfl
theorem dX1_copy_0 : decode cX1_copy 0 = .ok (.new 13, 3) := dk_187 0 13 (dk_at dksX1_copy_0 0 rfl rfl)
theorem dX1_copy_3 : decode cX1_copy 3 = .ok (.dup, 1) := dk_89 (dk_at dksX1_copy_0 3 rfl rfl)
theorem dX1_copy_4 : decode cX1_copy 4 = .ok (.invokespecial 32, 3) := dk_183 0 32 (dk_at dksX1_copy_0 4 rfl rfl)
theorem dX1_copy_7 : decode cX1_copy 7 = .ok (.astore_n 1, 1) := dk_76 (dk_at dksX1_copy_0 7 rfl rfl)
theorem dX1_copy_8 : decode cX1_copy 8 = .ok (.iconst 0, 1) := dk_3 (dk_at dksX1_copy_0 8 rfl rfl)
theorem dX1_copy_9 : decode cX1_copy 9 = .ok (.istore_n 2, 1) := dk_61 (dk_at dksX1_copy_0 9 rfl rfl)
theorem dX1_copy_10 : decode cX1_copy 10 = .ok (.iload_n 2, 1) := dk_28 (dk_at dksX1_copy_0 10 rfl rfl)
theorem dX1_copy_11 : decode cX1_copy 11 = .ok (.aload_n 0, 1) := dk_42 (dk_at dksX1_copy_0 11 rfl rfl)
theorem dX1_copy_12 : decode cX1_copy 12 = .ok (.getfield 12, 3) := dk_180 0 12 (dk_at dksX1_copy_0 12 rfl rfl)
theorem dX1_copy_15 : decode cX1_copy 15 = .ok (.invokevirtual 33, 3) := dk_182 0 33 (dk_at dksX1_copy_0 15 rfl rfl)
theorem dX1_copy_18 : decode cX1_copy 18 = .ok (.if_icmp .ge 28, 3) := dk_162 0 28 (dk_at dksX1_copy_0 18 rfl rfl)
theorem dX1_copy_21 : decode cX1_copy 21 = .ok (.aload_n 1, 1) := dk_43 (dk_at dksX1_copy_0 21 rfl rfl)
theorem dX1_copy_22 : decode cX1_copy 22 = .ok (.getfield 12, 3) := dk_180 0 12 (dk_at dksX1_copy_1 0 rfl rfl)
theorem dX1_copy_25 : decode cX1_copy 25 = .ok (.aload_n 0, 1) := dk_42 (dk_at dksX1_copy_1 3 rfl rfl)
theorem dX1_copy_26 : decode cX1_copy 26 = .ok (.getfield 12, 3) := dk_180 0 12 (dk_at dksX1_copy_1 4 rfl rfl)
theorem dX1_copy_29 : decode cX1_copy 29 = .ok (.iload_n 2, 1) := dk_28 (dk_at dksX1_copy_1 7 rfl rfl)
theorem dX1_copy_30 : decode cX1_copy 30 = .ok (.invokevirtual 37, 3) := dk_182 0 37 (dk_at dksX1_copy_1 8 rfl rfl)
theorem dX1_copy_33 : decode cX1_copy 33 = .ok (.checkcast 41, 3) := dk_192 0 41 (dk_at dksX1_copy_1 11 rfl rfl)
theorem dX1_copy_36 : decode cX1_copy 36 = .ok (.invokevirtual 43, 3) := dk_182 0 43 (dk_at dksX1_copy_1 14 rfl rfl)
theorem dX1_copy_39 : decode cX1_copy 39 = .ok (.pop, 1) := dk_87 (dk_at dksX1_copy_1 17 rfl rfl)
theorem dX1_copy_40 : decode cX1_copy 40 = .ok (.iinc 2 1, 3) := dk_132 2 1 (dk_at dksX1_copy_1 18 rfl rfl)
theorem dX1_copy_43 : decode cX1_copy 43 = .ok (.goto (-33), 3) := dk_167 255 223 (dk_at dksX1_copy_1 21 rfl rfl)
theorem dX1_copy_46 : decode cX1_copy 46 = .ok (.iconst 0, 1) := dk_3 (dk_at dksX1_copy_2 0 rfl rfl)
theorem dX1_copy_47 : decode cX1_copy 47 = .ok (.istore_n 2, 1) := dk_61 (dk_at dksX1_copy_2 1 rfl rfl)
theorem dX1_copy_48 : decode cX1_copy 48 = .ok (.iload_n 2, 1) := dk_28 (dk_at dksX1_copy_2 2 rfl rfl)
theorem dX1_copy_49 : decode cX1_copy 49 = .ok (.aload_n 0, 1) := dk_42 (dk_at dksX1_copy_2 3 rfl rfl)
theorem dX1_copy_50 : decode cX1_copy 50 = .ok (.getfield 18, 3) := dk_180 0 18 (dk_at dksX1_copy_2 4 rfl rfl)
theorem dX1_copy_53 : decode cX1_copy 53 = .ok (.invokevirtual 33, 3) := dk_182 0 33 (dk_at dksX1_copy_2 7 rfl rfl)
theorem dX1_copy_56 : decode cX1_copy 56 = .ok (.if_icmp .ge 31, 3) := dk_162 0 31 (dk_at dksX1_copy_2 10 rfl rfl)
theorem dX1_copy_59 : decode cX1_copy 59 = .ok (.aload_n 1, 1) := dk_43 (dk_at dksX1_copy_2 13 rfl rfl)
theorem dX1_copy_60 : decode cX1_copy 60 = .ok (.getfield 18, 3) := dk_180 0 18 (dk_at dksX1_copy_2 14 rfl rfl)
theorem dX1_copy_63 : decode cX1_copy 63 = .ok (.aload_n 0, 1) := dk_42 (dk_at dksX1_copy_2 17 rfl rfl)
theorem dX1_copy_64 : decode cX1_copy 64 = .ok (.getfield 18, 3) := dk_180 0 18 (dk_at dksX1_copy_2 18 rfl rfl)
theorem dX1_copy_67 : decode cX1_copy 67 = .ok (.iload_n 2, 1) := dk_28 (dk_at dksX1_copy_2 21 rfl rfl)
theorem dX1_copy_68 : decode cX1_copy 68 = .ok (.invokevirtual 37, 3) := dk_182 0 37 (dk_at dksX1_copy_3 0 rfl rfl)
theorem dX1_copy_71 : decode cX1_copy 71 = .ok (.checkcast 47, 3) := dk_192 0 47 (dk_at dksX1_copy_3 3 rfl rfl)
theorem dX1_copy_74 : decode cX1_copy 74 = .ok (.invokevirtual 49, 3) := dk_182 0 49 (dk_at dksX1_copy_3 6 rfl rfl)
theorem dX1_copy_77 : decode cX1_copy 77 = .ok (.invokevirtual 43, 3) := dk_182 0 43 (dk_at dksX1_copy_3 9 rfl rfl)
theorem dX1_copy_80 : decode cX1_copy 80 = .ok (.pop, 1) := dk_87 (dk_at dksX1_copy_3 12 rfl rfl)
theorem dX1_copy_81 : decode cX1_copy 81 = .ok (.iinc 2 1, 3) := dk_132 2 1 (dk_at dksX1_copy_3 13 rfl rfl)
theorem dX1_copy_84 : decode cX1_copy 84 = .ok (.goto (-36), 3) := dk_167 255 220 (dk_at dksX1_copy_3 16 rfl rfl)
theorem dX1_copy_87 : decode cX1_copy 87 = .ok (.iconst 0, 1) := dk_3 (dk_at dksX1_copy_3 19 rfl rfl)
theorem dX1_copy_88 : decode cX1_copy 88 = .ok (.istore_n 2, 1) := dk_61 (dk_at dksX1_copy_3 20 rfl rfl)
theorem dX1_copy_89 : decode cX1_copy 89 = .ok (.iload_n 2, 1) := dk_28 (dk_at dksX1_copy_3 21 rfl rfl)
theorem dX1_copy_90 : decode cX1_copy 90 = .ok (.aload_n 0, 1) := dk_42 (dk_at dksX1_copy_3 22 rfl rfl)
theorem dX1_copy_91 : decode cX1_copy 91 = .ok (.getfield 21, 3) := dk_180 0 21 (dk_at dksX1_copy_4 0 rfl rfl)
theorem dX1_copy_94 : decode cX1_copy 94 = .ok (.invokevirtual 33, 3) := dk_182 0 33 (dk_at dksX1_copy_4 3 rfl rfl)
theorem dX1_copy_97 : decode cX1_copy 97 = .ok (.if_icmp .ge 31, 3) := dk_162 0 31 (dk_at dksX1_copy_4 6 rfl rfl)
theorem dX1_copy_100 : decode cX1_copy 100 = .ok (.aload_n 1, 1) := dk_43 (dk_at dksX1_copy_4 9 rfl rfl)
theorem dX1_copy_101 : decode cX1_copy 101 = .ok (.getfield 21, 3) := dk_180 0 21 (dk_at dksX1_copy_4 10 rfl rfl)
theorem dX1_copy_104 : decode cX1_copy 104 = .ok (.aload_n 0, 1) := dk_42 (dk_at dksX1_copy_4 13 rfl rfl)
theorem dX1_copy_105 : decode cX1_copy 105 = .ok (.getfield 21, 3) := dk_180 0 21 (dk_at dksX1_copy_4 14 rfl rfl)
theorem dX1_copy_108 : decode cX1_copy 108 = .ok (.iload_n 2, 1) := dk_28 (dk_at dksX1_copy_4 17 rfl rfl)
theorem dX1_copy_109 : decode cX1_copy 109 = .ok (.invokevirtual 37, 3) := dk_182 0 37 (dk_at dksX1_copy_4 18 rfl rfl)
theorem dX1_copy_112 : decode cX1_copy 112 = .ok (.checkcast 47, 3) := dk_192 0 47 (dk_at dksX1_copy_4 21 rfl rfl)
theorem dX1_copy_115 : decode cX1_copy 115 = .ok (.invokevirtual 49, 3) := dk_182 0 49 (dk_at dksX1_copy_5 0 rfl rfl)
theorem dX1_copy_118 : decode cX1_copy 118 = .ok (.invokevirtual 43, 3) := dk_182 0 43 (dk_at dksX1_copy_5 3 rfl rfl)
theorem dX1_copy_121 : decode cX1_copy 121 = .ok (.pop, 1) := dk_87 (dk_at dksX1_copy_5 6 rfl rfl)
theorem dX1_copy_122 : decode cX1_copy 122 = .ok (.iinc 2 1, 3) := dk_132 2 1 (dk_at dksX1_copy_5 7 rfl rfl)
theorem dX1_copy_125 : decode cX1_copy 125 = .ok (.goto (-36), 3) := dk_167 255 220 (dk_at dksX1_copy_5 10 rfl rfl)
theorem dX1_copy_128 : decode cX1_copy 128 = .ok (.aload_n 0, 1) := dk_42 (dk_at dksX1_copy_5 13 rfl rfl)
theorem dX1_copy_129 : decode cX1_copy 129 = .ok (.getfield 24, 3) := dk_180 0 24 (dk_at dksX1_copy_5 14 rfl rfl)
theorem dX1_copy_132 : decode cX1_copy 132 = .ok (.iconst 0, 1) := dk_3 (dk_at dksX1_copy_5 17 rfl rfl)
theorem dX1_copy_133 : decode cX1_copy 133 = .ok (.aload_n 1, 1) := dk_43 (dk_at dksX1_copy_5 18 rfl rfl)
theorem dX1_copy_134 : decode cX1_copy 134 = .ok (.getfield 24, 3) := dk_180 0 24 (dk_at dksX1_copy_5 19 rfl rfl)
theorem dX1_copy_137 : decode cX1_copy 137 = .ok (.iconst 0, 1) := dk_3 (dk_at dksX1_copy_5 22 rfl rfl)
theorem dX1_copy_138 : decode cX1_copy 138 = .ok (.aload_n 0, 1) := dk_42 (dk_at dksX1_copy_5 23 rfl rfl)
theorem dX1_copy_139 : decode cX1_copy 139 = .ok (.getfield 24, 3) := dk_180 0 24 (dk_at dksX1_copy_6 0 rfl rfl)
theorem dX1_copy_142 : decode cX1_copy 142 = .ok (.arraylength, 1) := dk_190 (dk_at dksX1_copy_6 3 rfl rfl)
theorem dX1_copy_143 : decode cX1_copy 143 = .ok (.invokestatic 53, 3) := dk_184 0 53 (dk_at dksX1_copy_6 4 rfl rfl)
theorem dX1_copy_146 : decode cX1_copy 146 = .ok (.aload_n 1, 1) := dk_43 (dk_at dksX1_copy_6 7 rfl rfl)
theorem dX1_copy_147 : decode cX1_copy 147 = .ok (.aload_n 0, 1) := dk_42 (dk_at dksX1_copy_6 8 rfl rfl)
theorem dX1_copy_148 : decode cX1_copy 148 = .ok (.getfield 59, 3) := dk_180 0 59 (dk_at dksX1_copy_6 9 rfl rfl)
theorem dX1_copy_151 : decode cX1_copy 151 = .ok (.putfield 59, 3) := dk_181 0 59 (dk_at dksX1_copy_6 12 rfl rfl)
theorem dX1_copy_154 : decode cX1_copy 154 = .ok (.aload_n 1, 1) := dk_43 (dk_at dksX1_copy_6 15 rfl rfl)
theorem dX1_copy_155 : decode cX1_copy 155 = .ok (.aload_n 0, 1) := dk_42 (dk_at dksX1_copy_6 16 rfl rfl)
theorem dX1_copy_156 : decode cX1_copy 156 = .ok (.getfield 28, 3) := dk_180 0 28 (dk_at dksX1_copy_6 17 rfl rfl)
theorem dX1_copy_159 : decode cX1_copy 159 = .ok (.putfield 28, 3) := dk_181 0 28 (dk_at dksX1_copy_6 20 rfl rfl)
theorem dX1_copy_162 : decode cX1_copy 162 = .ok (.aload_n 1, 1) := dk_43 (dk_at dksX1_copy_6 23 rfl rfl)
theorem dX1_copy_163 : decode cX1_copy 163 = .ok (.areturn, 1) := dk_176 (dk_at dksX1_copy_7 0 rfl rfl)
theorem q87 : (Jvm.Cond.initialized "FiveTouch$Yard") ∈ lw_all := lw_g (lw_at lw_m1 2 rfl) rfl
theorem q137 : (Jvm.Cond.instantiable "FiveTouch$Yard" (6 : Nat)) ∈ lw_all := lw_g (lw_at lw_m1 52 rfl) rfl
theorem q139 : (Jvm.Cond.instanceMethod ({ cls := "FiveTouch$Yard", name := "<init>", desc := "()V" } : Jvm.MethodName)) ∈ lw_all := lw_g (lw_at lw_m1 54 rfl) rfl
theorem q140 : (Jvm.Cond.code ({ cls := "FiveTouch$Yard", name := "<init>", desc := "()V" } : Jvm.MethodName) prog_23_method_1_code (1 : Nat) (Option.none : Option Jvm.ClassFile.FieldType)) ∈ lw_all := lw_g (lw_at lw_m1 55 rfl) rfl
theorem q141 : (Jvm.Cond.methodLink "FiveTouch$Yard" (3 : Nat) ({ cls := "java/lang/Object", name := "<init>", desc := "()V" } : Jvm.MethodName)) ∈ lw_all := lw_g (lw_at lw_m1 56 rfl) rfl
theorem q142 : (Jvm.Cond.classLink "FiveTouch$Yard" (9 : Nat) "java/util/ArrayList") ∈ lw_all := lw_g (lw_at lw_m1 57 rfl) rfl
theorem q144 : (Jvm.Cond.methodLink "FiveTouch$Yard" (11 : Nat) ({ cls := "java/util/ArrayList", name := "<init>", desc := "()V" } : Jvm.MethodName)) ∈ lw_all := lw_g (lw_at lw_m1 59 rfl) rfl
theorem q168 : (Jvm.Cond.fieldLink "FiveTouch$Yard" (12 : Nat) "FiveTouch$Yard" "laws" "Ljava/util/ArrayList;") ∈ lw_all := lw_g (lw_at lw_m1 83 rfl) rfl
theorem q170 : (Jvm.Cond.fieldLink "FiveTouch$Yard" (18 : Nat) "FiveTouch$Yard" "stones" "Ljava/util/ArrayList;") ∈ lw_all := lw_g (lw_at lw_m1 85 rfl) rfl
theorem q173 : (Jvm.Cond.fieldLink "FiveTouch$Yard" (21 : Nat) "FiveTouch$Yard" "spares" "Ljava/util/ArrayList;") ∈ lw_all := lw_g (lw_at lw_m1 88 rfl) rfl
theorem q175 : (Jvm.Cond.fieldLink "FiveTouch$Yard" (24 : Nat) "FiveTouch$Yard" "terms" "[I") ∈ lw_all := lw_g (lw_at lw_m1 90 rfl) rfl
theorem q182 : (Jvm.Cond.fieldLink "FiveTouch$Yard" (59 : Nat) "FiveTouch$Yard" "there" "I") ∈ lw_all := lw_g (lw_at lw_m1 97 rfl) rfl
theorem q184 : (Jvm.Cond.fieldLink "FiveTouch$Yard" (28 : Nat) "FiveTouch$Yard" "inForce" "I") ∈ lw_all := lw_g (lw_at lw_m1 99 rfl) rfl
theorem q186 : (Jvm.Cond.laysFinal "FiveTouch$Yard" "FiveTouch$Yard" "laws" "Ljava/util/ArrayList;") ∈ lw_all := lw_g (lw_at lw_m1 101 rfl) rfl
theorem q187 : (Jvm.Cond.soleField "FiveTouch$Yard" "laws") ∈ lw_all := lw_g (lw_at lw_m1 102 rfl) rfl
theorem q188 : (Jvm.Cond.laysFinal "FiveTouch$Yard" "FiveTouch$Yard" "stones" "Ljava/util/ArrayList;") ∈ lw_all := lw_g (lw_at lw_m1 103 rfl) rfl
theorem q189 : (Jvm.Cond.soleField "FiveTouch$Yard" "stones") ∈ lw_all := lw_g (lw_at lw_m1 104 rfl) rfl
theorem q190 : (Jvm.Cond.laysFinal "FiveTouch$Yard" "FiveTouch$Yard" "spares" "Ljava/util/ArrayList;") ∈ lw_all := lw_g (lw_at lw_m1 105 rfl) rfl
theorem q191 : (Jvm.Cond.soleField "FiveTouch$Yard" "spares") ∈ lw_all := lw_g (lw_at lw_m1 106 rfl) rfl
theorem q192 : (Jvm.Cond.laysFinal "FiveTouch$Yard" "FiveTouch$Yard" "terms" "[I") ∈ lw_all := lw_g (lw_at lw_m1 107 rfl) rfl
theorem q193 : (Jvm.Cond.soleField "FiveTouch$Yard" "terms") ∈ lw_all := lw_g (lw_at lw_m1 108 rfl) rfl
theorem q194 : (Jvm.Cond.lays "FiveTouch$Yard" "FiveTouch$Yard" "there" "I") ∈ lw_all := lw_g (lw_at lw_m1 109 rfl) rfl
theorem q195 : (Jvm.Cond.soleField "FiveTouch$Yard" "there") ∈ lw_all := lw_g (lw_at lw_m1 110 rfl) rfl
theorem q196 : (Jvm.Cond.lays "FiveTouch$Yard" "FiveTouch$Yard" "inForce" "I") ∈ lw_all := lw_g (lw_at lw_m1 111 rfl) rfl
theorem q197 : (Jvm.Cond.soleField "FiveTouch$Yard" "inForce") ∈ lw_all := lw_g (lw_at lw_m1 112 rfl) rfl
theorem q198 : (Jvm.Cond.superclass "FiveTouch$Yard" "java/lang/Object") ∈ lw_all := lw_g (lw_at lw_m1 113 rfl) rfl
theorem q386 : (Jvm.Cond.instanceMethod ({ cls := "FiveTouch$Yard", name := "isFree", desc := "(LFiveTouch$Stone;)Z" } : Jvm.MethodName)) ∈ lw_all := lw_g (lw_at lw_m2 61 rfl) rfl
theorem q387 : (Jvm.Cond.selects "FiveTouch$Yard" ({ cls := "FiveTouch$Yard", name := "isFree", desc := "(LFiveTouch$Stone;)Z" } : Jvm.MethodName) ({ cls := "FiveTouch$Yard", name := "isFree", desc := "(LFiveTouch$Stone;)Z" } : Jvm.MethodName)) ∈ lw_all := lw_g (lw_at lw_m2 62 rfl) rfl
theorem q388 : (Jvm.Cond.code ({ cls := "FiveTouch$Yard", name := "isFree", desc := "(LFiveTouch$Stone;)Z" } : Jvm.MethodName) prog_23_method_5_code (3 : Nat) (Option.some Jvm.ClassFile.FieldType.boolean)) ∈ lw_all := lw_g (lw_at lw_m2 63 rfl) rfl
theorem q389 : (Jvm.Cond.methodLink "FiveTouch$Yard" (62 : Nat) ({ cls := "FiveTouch$Yard", name := "of", desc := "(I)LFiveTouch$Stone;" } : Jvm.MethodName)) ∈ lw_all := lw_g (lw_at lw_m2 64 rfl) rfl
theorem q390 : (Jvm.Cond.instanceMethod ({ cls := "FiveTouch$Yard", name := "of", desc := "(I)LFiveTouch$Stone;" } : Jvm.MethodName)) ∈ lw_all := lw_g (lw_at lw_m2 65 rfl) rfl
theorem q391 : (Jvm.Cond.selects "FiveTouch$Yard" ({ cls := "FiveTouch$Yard", name := "of", desc := "(I)LFiveTouch$Stone;" } : Jvm.MethodName) ({ cls := "FiveTouch$Yard", name := "of", desc := "(I)LFiveTouch$Stone;" } : Jvm.MethodName)) ∈ lw_all := lw_g (lw_at lw_m2 66 rfl) rfl
theorem q392 : (Jvm.Cond.code ({ cls := "FiveTouch$Yard", name := "of", desc := "(I)LFiveTouch$Stone;" } : Jvm.MethodName) prog_23_method_4_code (2 : Nat) (Option.some (Jvm.ClassFile.FieldType.object "FiveTouch$Stone"))) ∈ lw_all := lw_g (lw_at lw_m2 67 rfl) rfl
theorem q393 : (Jvm.Cond.methodLink "FiveTouch$Yard" (33 : Nat) ({ cls := "java/util/ArrayList", name := "size", desc := "()I" } : Jvm.MethodName)) ∈ lw_all := lw_g (lw_at lw_m2 68 rfl) rfl
theorem q397 : (Jvm.Cond.methodLink "FiveTouch$Yard" (37 : Nat) ({ cls := "java/util/ArrayList", name := "get", desc := "(I)Ljava/lang/Object;" } : Jvm.MethodName)) ∈ lw_all := lw_g (lw_at lw_m2 72 rfl) rfl
theorem q411 : (Jvm.Cond.classLink "FiveTouch$Yard" (47 : Nat) "FiveTouch$Stone") ∈ lw_all := lw_g (lw_at lw_m2 86 rfl) rfl
theorem q412 : (Jvm.Cond.methodLink "FiveTouch$Yard" (66 : Nat) ({ cls := "FiveTouch$Stone", name := "meets", desc := "(LFiveTouch$Stone;)Z" } : Jvm.MethodName)) ∈ lw_all := lw_g (lw_at lw_m2 87 rfl) rfl
theorem q481 : (Jvm.Cond.selects "FiveTouch$Yard" ({ cls := "java/lang/Object", name := "getClass", desc := "()Ljava/lang/Class;" } : Jvm.MethodName) ({ cls := "java/lang/Object", name := "getClass", desc := "()Ljava/lang/Class;" } : Jvm.MethodName)) ∈ lw_all := lw_g (lw_at lw_m2 156 rfl) rfl
theorem q979 : (Jvm.Cond.instanceMethod ({ cls := "FiveTouch$Yard", name := "law", desc := "(LFiveTouch$Text;)LFiveTouch$Text;" } : Jvm.MethodName)) ∈ lw_all := lw_g (lw_at lw_m4 174 rfl) rfl
theorem q980 : (Jvm.Cond.selects "FiveTouch$Yard" ({ cls := "FiveTouch$Yard", name := "law", desc := "(LFiveTouch$Text;)LFiveTouch$Text;" } : Jvm.MethodName) ({ cls := "FiveTouch$Yard", name := "law", desc := "(LFiveTouch$Text;)LFiveTouch$Text;" } : Jvm.MethodName)) ∈ lw_all := lw_g (lw_at lw_m4 175 rfl) rfl
theorem q981 : (Jvm.Cond.code ({ cls := "FiveTouch$Yard", name := "law", desc := "(LFiveTouch$Text;)LFiveTouch$Text;" } : Jvm.MethodName) prog_23_method_3_code (2 : Nat) (Option.some (Jvm.ClassFile.FieldType.object "FiveTouch$Text"))) ∈ lw_all := lw_g (lw_at lw_m4 176 rfl) rfl
theorem q982 : (Jvm.Cond.classLink "FiveTouch$Yard" (41 : Nat) "FiveTouch$Text") ∈ lw_all := lw_g (lw_at lw_m4 177 rfl) rfl
theorem q1341 : (Jvm.Cond.instanceMethod ({ cls := "FiveTouch$Yard", name := "copy", desc := "()LFiveTouch$Yard;" } : Jvm.MethodName)) ∈ lw_all := lw_g (lw_at lw_m6 56 rfl) rfl
theorem q1342 : (Jvm.Cond.selects "FiveTouch$Yard" ({ cls := "FiveTouch$Yard", name := "copy", desc := "()LFiveTouch$Yard;" } : Jvm.MethodName) ({ cls := "FiveTouch$Yard", name := "copy", desc := "()LFiveTouch$Yard;" } : Jvm.MethodName)) ∈ lw_all := lw_g (lw_at lw_m6 57 rfl) rfl
theorem q1343 : (Jvm.Cond.code ({ cls := "FiveTouch$Yard", name := "copy", desc := "()LFiveTouch$Yard;" } : Jvm.MethodName) prog_23_method_2_code (3 : Nat) (Option.some (Jvm.ClassFile.FieldType.object "FiveTouch$Yard"))) ∈ lw_all := lw_g (lw_at lw_m6 58 rfl) rfl
theorem q1344 : (Jvm.Cond.classLink "FiveTouch$Yard" (13 : Nat) "FiveTouch$Yard") ∈ lw_all := lw_g (lw_at lw_m6 59 rfl) rfl
theorem q1345 : (Jvm.Cond.methodLink "FiveTouch$Yard" (32 : Nat) ({ cls := "FiveTouch$Yard", name := "<init>", desc := "()V" } : Jvm.MethodName)) ∈ lw_all := lw_g (lw_at lw_m6 60 rfl) rfl
theorem q1346 : (Jvm.Cond.methodLink "FiveTouch$Yard" (43 : Nat) ({ cls := "java/util/ArrayList", name := "add", desc := "(Ljava/lang/Object;)Z" } : Jvm.MethodName)) ∈ lw_all := lw_g (lw_at lw_m6 61 rfl) rfl
theorem q1347 : (Jvm.Cond.methodLink "FiveTouch$Yard" (49 : Nat) ({ cls := "FiveTouch$Stone", name := "copy", desc := "()LFiveTouch$Stone;" } : Jvm.MethodName)) ∈ lw_all := lw_g (lw_at lw_m6 62 rfl) rfl
theorem q1353 : (Jvm.Cond.methodLink "FiveTouch$Yard" (53 : Nat) ({ cls := "java/lang/System", name := "arraycopy", desc := "(Ljava/lang/Object;ILjava/lang/Object;II)V" } : Jvm.MethodName)) ∈ lw_all := lw_g (lw_at lw_m6 68 rfl) rfl
theorem q1857 : (Jvm.Cond.castable "FiveTouch$Yard" "java/lang/Object") ∈ lw_tbl := lw_at lw_m8 92 rfl
theorem in_X1 : ∀ w ∈ wsX10, w ∈ lw_all := lw_in wsX10 [186, 188, 190, 192, 194, 196] (by decide +kernel) (by decide +kernel)
/-! FiveTouch$Asked -/
set_option maxRecDepth 100000
def RX2 : String := "FiveTouch$Asked"
def TX2 : u_T := fun k => match k with
  | 0 => ("FiveTouch$Asked", "numbers", "[J", true)
  | _ => ("FiveTouch$Asked", "isBroken", "Z", false)
def tyX2 : Nat → FieldType := fun k => match k with
  | 0 => .array .long
  | _ => .boolean
abbrev wsX20 : List Cond := u_ws RX2 TX2 2
theorem nmX2 : ∀ a, a < 2 → ∀ b, b < 2 → a ≠ b → (TX2 a).2.1 ≠ (TX2 b).2.1 := by decide +kernel
theorem tyX2_ok : ∀ k, k < 2 → parseFieldDescriptor (TX2 k).2.2.1 = some (tyX2 k) := by decide +kernel
abbrev cX2_init : ByteArray := prog_3_method_1_code
def yX2_init : MethodName := ⟨RX2, "<init>", "()V"⟩
def dkwX2_init_0 : List UInt8 := [42, 183, 0, 1, 42, 16, 8, 188, 11, 181, 0, 7, 177]
abbrev dktX2_init_0 : List UInt8 := dkwX2_init_0 ++ []
theorem dksX2_init_0 : cX2_init.data.toList.drop 0 = dktX2_init_0 := by decide +kernel
theorem dX2_init_0 : decode cX2_init 0 = .ok (.aload_n 0, 1) := dk_42 (dk_at dksX2_init_0 0 rfl rfl)
theorem dX2_init_1 : decode cX2_init 1 = .ok (.invokespecial 1, 3) := dk_183 0 1 (dk_at dksX2_init_0 1 rfl rfl)
theorem dX2_init_4 : decode cX2_init 4 = .ok (.aload_n 0, 1) := dk_42 (dk_at dksX2_init_0 4 rfl rfl)
theorem dX2_init_5 : decode cX2_init 5 = .ok (.bipush 8, 2) := dk_16 8 (dk_at dksX2_init_0 5 rfl rfl)
theorem dX2_init_7 : decode cX2_init 7 = .ok (.newarray .long, 2) := dk_188_11 (dk_at dksX2_init_0 7 rfl rfl)
theorem dX2_init_9 : decode cX2_init 9 = .ok (.putfield 7, 3) := dk_181 0 7 (dk_at dksX2_init_0 9 rfl rfl)
theorem dX2_init_12 : decode cX2_init 12 = .ok (.return_, 1) := dk_177 (dk_at dksX2_init_0 12 rfl rfl)
abbrev cX2_within : ByteArray := prog_3_method_2_code
def yX2_within : MethodName := ⟨RX2, "within", "(J)J"⟩
def dkwX2_within_1 : List UInt8 := [4, 167, 0, 4, 3, 181, 0, 13, 42, 180, 0, 13, 153, 0, 7, 9, 167, 0, 4, 31, 173]
abbrev dktX2_within_1 : List UInt8 := dkwX2_within_1 ++ []
def dkwX2_within_0 : List UInt8 := [42, 42, 180, 0, 13, 154, 0, 19, 31, 20, 0, 17, 148, 157, 0, 11, 31, 20, 0, 19, 148, 156, 0, 7]
abbrev dktX2_within_0 : List UInt8 := dkwX2_within_0 ++ dktX2_within_1
theorem dksX2_within_0 : cX2_within.data.toList.drop 0 = dktX2_within_0 := by decide +kernel
theorem dksX2_within_1 : cX2_within.data.toList.drop 24 = dktX2_within_1 := dk_seg dksX2_within_0 24 rfl rfl
theorem dX2_within_0 : decode cX2_within 0 = .ok (.aload_n 0, 1) := dk_42 (dk_at dksX2_within_0 0 rfl rfl)
theorem dX2_within_1 : decode cX2_within 1 = .ok (.aload_n 0, 1) := dk_42 (dk_at dksX2_within_0 1 rfl rfl)
theorem dX2_within_2 : decode cX2_within 2 = .ok (.getfield 13, 3) := dk_180 0 13 (dk_at dksX2_within_0 2 rfl rfl)
theorem dX2_within_5 : decode cX2_within 5 = .ok (.ifCond .ne 19, 3) := dk_154 0 19 (dk_at dksX2_within_0 5 rfl rfl)
theorem dX2_within_8 : decode cX2_within 8 = .ok (.lload_n 1, 1) := dk_31 (dk_at dksX2_within_0 8 rfl rfl)
theorem dX2_within_9 : decode cX2_within 9 = .ok (.ldc2_w 17, 3) := dk_20 0 17 (dk_at dksX2_within_0 9 rfl rfl)
theorem dX2_within_12 : decode cX2_within 12 = .ok (.lcmp, 1) := dk_148 (dk_at dksX2_within_0 12 rfl rfl)
theorem dX2_within_13 : decode cX2_within 13 = .ok (.ifCond .gt 11, 3) := dk_157 0 11 (dk_at dksX2_within_0 13 rfl rfl)
theorem dX2_within_16 : decode cX2_within 16 = .ok (.lload_n 1, 1) := dk_31 (dk_at dksX2_within_0 16 rfl rfl)
theorem dX2_within_17 : decode cX2_within 17 = .ok (.ldc2_w 19, 3) := dk_20 0 19 (dk_at dksX2_within_0 17 rfl rfl)
theorem dX2_within_20 : decode cX2_within 20 = .ok (.lcmp, 1) := dk_148 (dk_at dksX2_within_0 20 rfl rfl)
theorem dX2_within_21 : decode cX2_within 21 = .ok (.ifCond .ge 7, 3) := dk_156 0 7 (dk_at dksX2_within_0 21 rfl rfl)
theorem dX2_within_24 : decode cX2_within 24 = .ok (.iconst 1, 1) := dk_4 (dk_at dksX2_within_1 0 rfl rfl)
theorem dX2_within_25 : decode cX2_within 25 = .ok (.goto 4, 3) := dk_167 0 4 (dk_at dksX2_within_1 1 rfl rfl)
theorem dX2_within_28 : decode cX2_within 28 = .ok (.iconst 0, 1) := dk_3 (dk_at dksX2_within_1 4 rfl rfl)
theorem dX2_within_29 : decode cX2_within 29 = .ok (.putfield 13, 3) := dk_181 0 13 (dk_at dksX2_within_1 5 rfl rfl)
theorem dX2_within_32 : decode cX2_within 32 = .ok (.aload_n 0, 1) := dk_42 (dk_at dksX2_within_1 8 rfl rfl)
theorem dX2_within_33 : decode cX2_within 33 = .ok (.getfield 13, 3) := dk_180 0 13 (dk_at dksX2_within_1 9 rfl rfl)
theorem dX2_within_36 : decode cX2_within 36 = .ok (.ifCond .eq 7, 3) := dk_153 0 7 (dk_at dksX2_within_1 12 rfl rfl)
theorem dX2_within_39 : decode cX2_within 39 = .ok (.lconst 0, 1) := dk_9 (dk_at dksX2_within_1 15 rfl rfl)
theorem dX2_within_40 : decode cX2_within 40 = .ok (.goto 4, 3) := dk_167 0 4 (dk_at dksX2_within_1 16 rfl rfl)
theorem dX2_within_43 : decode cX2_within 43 = .ok (.lload_n 1, 1) := dk_31 (dk_at dksX2_within_1 19 rfl rfl)
theorem dX2_within_44 : decode cX2_within 44 = .ok (.lreturn, 1) := dk_173 (dk_at dksX2_within_1 20 rfl rfl)
theorem q91 : (Jvm.Cond.initialized "FiveTouch$Asked") ∈ lw_all := lw_g (lw_at lw_m1 6 rfl) rfl
theorem q202 : (Jvm.Cond.instantiable "FiveTouch$Asked" (2 : Nat)) ∈ lw_all := lw_g (lw_at lw_m1 117 rfl) rfl
theorem q204 : (Jvm.Cond.instanceMethod ({ cls := "FiveTouch$Asked", name := "<init>", desc := "()V" } : Jvm.MethodName)) ∈ lw_all := lw_g (lw_at lw_m1 119 rfl) rfl
theorem q205 : (Jvm.Cond.code ({ cls := "FiveTouch$Asked", name := "<init>", desc := "()V" } : Jvm.MethodName) prog_3_method_1_code (1 : Nat) (Option.none : Option Jvm.ClassFile.FieldType)) ∈ lw_all := lw_g (lw_at lw_m1 120 rfl) rfl
theorem q206 : (Jvm.Cond.methodLink "FiveTouch$Asked" (1 : Nat) ({ cls := "java/lang/Object", name := "<init>", desc := "()V" } : Jvm.MethodName)) ∈ lw_all := lw_g (lw_at lw_m1 121 rfl) rfl
theorem q207 : (Jvm.Cond.fieldLink "FiveTouch$Asked" (7 : Nat) "FiveTouch$Asked" "numbers" "[J") ∈ lw_all := lw_g (lw_at lw_m1 122 rfl) rfl
theorem q211 : (Jvm.Cond.fieldLink "FiveTouch$Asked" (13 : Nat) "FiveTouch$Asked" "isBroken" "Z") ∈ lw_all := lw_g (lw_at lw_m1 126 rfl) rfl
theorem q216 : (Jvm.Cond.laysFinal "FiveTouch$Asked" "FiveTouch$Asked" "numbers" "[J") ∈ lw_all := lw_g (lw_at lw_m1 131 rfl) rfl
theorem q217 : (Jvm.Cond.soleField "FiveTouch$Asked" "numbers") ∈ lw_all := lw_g (lw_at lw_m1 132 rfl) rfl
theorem q218 : (Jvm.Cond.lays "FiveTouch$Asked" "FiveTouch$Asked" "isBroken" "Z") ∈ lw_all := lw_g (lw_at lw_m1 133 rfl) rfl
theorem q219 : (Jvm.Cond.soleField "FiveTouch$Asked" "isBroken") ∈ lw_all := lw_g (lw_at lw_m1 134 rfl) rfl
theorem q220 : (Jvm.Cond.superclass "FiveTouch$Asked" "java/lang/Object") ∈ lw_all := lw_g (lw_at lw_m1 135 rfl) rfl
theorem q464 : (Jvm.Cond.selects "FiveTouch$Asked" ({ cls := "java/lang/Object", name := "getClass", desc := "()Ljava/lang/Class;" } : Jvm.MethodName) ({ cls := "java/lang/Object", name := "getClass", desc := "()Ljava/lang/Class;" } : Jvm.MethodName)) ∈ lw_all := lw_g (lw_at lw_m2 139 rfl) rfl
theorem q1011 : (Jvm.Cond.instanceMethod ({ cls := "FiveTouch$Asked", name := "within", desc := "(J)J" } : Jvm.MethodName)) ∈ lw_all := lw_g (lw_at lw_m4 206 rfl) rfl
theorem q1012 : (Jvm.Cond.selects "FiveTouch$Asked" ({ cls := "FiveTouch$Asked", name := "within", desc := "(J)J" } : Jvm.MethodName) ({ cls := "FiveTouch$Asked", name := "within", desc := "(J)J" } : Jvm.MethodName)) ∈ lw_all := lw_g (lw_at lw_m4 207 rfl) rfl
theorem q1013 : (Jvm.Cond.code ({ cls := "FiveTouch$Asked", name := "within", desc := "(J)J" } : Jvm.MethodName) prog_3_method_2_code (3 : Nat) (Option.some Jvm.ClassFile.FieldType.long)) ∈ lw_all := lw_g (lw_at lw_m4 208 rfl) rfl
theorem q1014 : (Jvm.Cond.constantLong "FiveTouch$Asked" (17 : Nat) (1000000000 : Int64)) ∈ lw_all := lw_g (lw_at lw_m4 209 rfl) rfl
theorem q1015 : (Jvm.Cond.constantLong "FiveTouch$Asked" (19 : Nat) (-1000000000 : Int64)) ∈ lw_all := lw_g (lw_at lw_m4 210 rfl) rfl
theorem q1863 : (Jvm.Cond.castable "FiveTouch$Asked" "java/lang/Object") ∈ lw_tbl := lw_at lw_m8 98 rfl
theorem in_X2 : ∀ w ∈ wsX20, w ∈ lw_all := lw_in wsX20 [216, 218] (by decide +kernel) (by decide +kernel)
/-! FiveTouch$Text -/
set_option maxRecDepth 100000
def RX3 : String := "FiveTouch$Text"
def TX3 : u_T := fun k => match k with
  | _ => ("FiveTouch$Text", "clauses", "[LFiveTouch$Clause;", true)
def tyX3 : Nat → FieldType := fun k => match k with
  | _ => .array (.object "FiveTouch$Clause")
abbrev wsX30 : List Cond := u_ws RX3 TX3 1
theorem nmX3 : ∀ a, a < 1 → ∀ b, b < 1 → a ≠ b → (TX3 a).2.1 ≠ (TX3 b).2.1 := by decide +kernel
theorem tyX3_ok : ∀ k, k < 1 → parseFieldDescriptor (TX3 k).2.2.1 = some (tyX3 k) := by decide +kernel
abbrev cX3_init : ByteArray := prog_21_method_1_code
def yX3_init : MethodName := ⟨RX3, "<init>", "([LFiveTouch$Clause;)V"⟩
def dkwX3_init_0 : List UInt8 := [42, 183, 0, 1, 42, 43, 181, 0, 7, 177]
abbrev dktX3_init_0 : List UInt8 := dkwX3_init_0 ++ []
theorem dksX3_init_0 : cX3_init.data.toList.drop 0 = dktX3_init_0 := by decide +kernel
theorem dX3_init_0 : decode cX3_init 0 = .ok (.aload_n 0, 1) := dk_42 (dk_at dksX3_init_0 0 rfl rfl)
theorem dX3_init_1 : decode cX3_init 1 = .ok (.invokespecial 1, 3) := dk_183 0 1 (dk_at dksX3_init_0 1 rfl rfl)
theorem dX3_init_4 : decode cX3_init 4 = .ok (.aload_n 0, 1) := dk_42 (dk_at dksX3_init_0 4 rfl rfl)
theorem dX3_init_5 : decode cX3_init 5 = .ok (.aload_n 1, 1) := dk_43 (dk_at dksX3_init_0 5 rfl rfl)
theorem dX3_init_6 : decode cX3_init 6 = .ok (.putfield 7, 3) := dk_181 0 7 (dk_at dksX3_init_0 6 rfl rfl)
theorem dX3_init_9 : decode cX3_init 9 = .ok (.return_, 1) := dk_177 (dk_at dksX3_init_0 9 rfl rfl)
abbrev cX3_tells : ByteArray := prog_21_method_3_code
def yX3_tells : MethodName := ⟨RX3, "tells", "(ILFiveTouch$Asked;J)J"⟩
def dkwX3_tells_2 : List UInt8 := [180, 0, 7, 21, 7, 50, 180, 0, 23, 55, 5, 132, 7, 1, 167, 255, 203, 22, 5, 173]
abbrev dktX3_tells_2 : List UInt8 := dkwX3_tells_2 ++ []
def dkwX3_tells_1 : List UInt8 := [180, 0, 13, 27, 160, 0, 29, 42, 180, 0, 7, 21, 7, 50, 44, 182, 0, 19, 153, 0, 15, 42]
abbrev dktX3_tells_1 : List UInt8 := dkwX3_tells_1 ++ dktX3_tells_2
def dkwX3_tells_0 : List UInt8 := [33, 55, 5, 3, 54, 7, 21, 7, 42, 180, 0, 7, 190, 162, 0, 49, 42, 180, 0, 7, 21, 7, 50]
abbrev dktX3_tells_0 : List UInt8 := dkwX3_tells_0 ++ dktX3_tells_1
theorem dksX3_tells_0 : cX3_tells.data.toList.drop 0 = dktX3_tells_0 := by decide +kernel
theorem dksX3_tells_1 : cX3_tells.data.toList.drop 23 = dktX3_tells_1 := dk_seg dksX3_tells_0 23 rfl rfl
theorem dksX3_tells_2 : cX3_tells.data.toList.drop 45 = dktX3_tells_2 := dk_seg dksX3_tells_1 22 rfl rfl
theorem dX3_tells_0 : decode cX3_tells 0 = .ok (.lload_n 3, 1) := dk_33 (dk_at dksX3_tells_0 0 rfl rfl)
theorem dX3_tells_1 : decode cX3_tells 1 = .ok (.lstore 5, 2) := dk_55 5 (dk_at dksX3_tells_0 1 rfl rfl)
theorem dX3_tells_3 : decode cX3_tells 3 = .ok (.iconst 0, 1) := dk_3 (dk_at dksX3_tells_0 3 rfl rfl)
theorem dX3_tells_4 : decode cX3_tells 4 = .ok (.istore 7, 2) := dk_54 7 (dk_at dksX3_tells_0 4 rfl rfl)
theorem dX3_tells_6 : decode cX3_tells 6 = .ok (.iload 7, 2) := dk_21 7 (dk_at dksX3_tells_0 6 rfl rfl)
theorem dX3_tells_8 : decode cX3_tells 8 = .ok (.aload_n 0, 1) := dk_42 (dk_at dksX3_tells_0 8 rfl rfl)
theorem dX3_tells_9 : decode cX3_tells 9 = .ok (.getfield 7, 3) := dk_180 0 7 (dk_at dksX3_tells_0 9 rfl rfl)
theorem dX3_tells_12 : decode cX3_tells 12 = .ok (.arraylength, 1) := dk_190 (dk_at dksX3_tells_0 12 rfl rfl)
theorem dX3_tells_13 : decode cX3_tells 13 = .ok (.if_icmp .ge 49, 3) := dk_162 0 49 (dk_at dksX3_tells_0 13 rfl rfl)
theorem dX3_tells_16 : decode cX3_tells 16 = .ok (.aload_n 0, 1) := dk_42 (dk_at dksX3_tells_0 16 rfl rfl)
theorem dX3_tells_17 : decode cX3_tells 17 = .ok (.getfield 7, 3) := dk_180 0 7 (dk_at dksX3_tells_0 17 rfl rfl)
theorem dX3_tells_20 : decode cX3_tells 20 = .ok (.iload 7, 2) := dk_21 7 (dk_at dksX3_tells_0 20 rfl rfl)
theorem dX3_tells_22 : decode cX3_tells 22 = .ok (.aaload, 1) := dk_50 (dk_at dksX3_tells_0 22 rfl rfl)
theorem dX3_tells_23 : decode cX3_tells 23 = .ok (.getfield 13, 3) := dk_180 0 13 (dk_at dksX3_tells_1 0 rfl rfl)
theorem dX3_tells_26 : decode cX3_tells 26 = .ok (.iload_n 1, 1) := dk_27 (dk_at dksX3_tells_1 3 rfl rfl)
theorem dX3_tells_27 : decode cX3_tells 27 = .ok (.if_icmp .ne 29, 3) := dk_160 0 29 (dk_at dksX3_tells_1 4 rfl rfl)
theorem dX3_tells_30 : decode cX3_tells 30 = .ok (.aload_n 0, 1) := dk_42 (dk_at dksX3_tells_1 7 rfl rfl)
theorem dX3_tells_31 : decode cX3_tells 31 = .ok (.getfield 7, 3) := dk_180 0 7 (dk_at dksX3_tells_1 8 rfl rfl)
theorem dX3_tells_34 : decode cX3_tells 34 = .ok (.iload 7, 2) := dk_21 7 (dk_at dksX3_tells_1 11 rfl rfl)
theorem dX3_tells_36 : decode cX3_tells 36 = .ok (.aaload, 1) := dk_50 (dk_at dksX3_tells_1 13 rfl rfl)
theorem dX3_tells_37 : decode cX3_tells 37 = .ok (.aload_n 2, 1) := dk_44 (dk_at dksX3_tells_1 14 rfl rfl)
theorem dX3_tells_38 : decode cX3_tells 38 = .ok (.invokevirtual 19, 3) := dk_182 0 19 (dk_at dksX3_tells_1 15 rfl rfl)
theorem dX3_tells_41 : decode cX3_tells 41 = .ok (.ifCond .eq 15, 3) := dk_153 0 15 (dk_at dksX3_tells_1 18 rfl rfl)
theorem dX3_tells_44 : decode cX3_tells 44 = .ok (.aload_n 0, 1) := dk_42 (dk_at dksX3_tells_1 21 rfl rfl)
theorem dX3_tells_45 : decode cX3_tells 45 = .ok (.getfield 7, 3) := dk_180 0 7 (dk_at dksX3_tells_2 0 rfl rfl)
theorem dX3_tells_48 : decode cX3_tells 48 = .ok (.iload 7, 2) := dk_21 7 (dk_at dksX3_tells_2 3 rfl rfl)
theorem dX3_tells_50 : decode cX3_tells 50 = .ok (.aaload, 1) := dk_50 (dk_at dksX3_tells_2 5 rfl rfl)
theorem dX3_tells_51 : decode cX3_tells 51 = .ok (.getfield 23, 3) := dk_180 0 23 (dk_at dksX3_tells_2 6 rfl rfl)
theorem dX3_tells_54 : decode cX3_tells 54 = .ok (.lstore 5, 2) := dk_55 5 (dk_at dksX3_tells_2 9 rfl rfl)
theorem dX3_tells_56 : decode cX3_tells 56 = .ok (.iinc 7 1, 3) := dk_132 7 1 (dk_at dksX3_tells_2 11 rfl rfl)
theorem dX3_tells_59 : decode cX3_tells 59 = .ok (.goto (-53), 3) := dk_167 255 203 (dk_at dksX3_tells_2 14 rfl rfl)
theorem dX3_tells_62 : decode cX3_tells 62 = .ok (.lload 5, 2) := dk_22 5 (dk_at dksX3_tells_2 17 rfl rfl)
theorem dX3_tells_64 : decode cX3_tells 64 = .ok (.lreturn, 1) := dk_173 (dk_at dksX3_tells_2 19 rfl rfl)
abbrev cX3_has : ByteArray := prog_21_method_2_code
def yX3_has : MethodName := ⟨RX3, "has", "(ILFiveTouch$Asked;)Z"⟩
def dkwX3_has_1 : List UInt8 := [42, 180, 0, 7, 29, 50, 44, 182, 0, 19, 153, 0, 5, 4, 172, 132, 3, 1, 167, 255, 216, 3, 172]
abbrev dktX3_has_1 : List UInt8 := dkwX3_has_1 ++ []
def dkwX3_has_0 : List UInt8 := [3, 62, 29, 42, 180, 0, 7, 190, 162, 0, 37, 42, 180, 0, 7, 29, 50, 180, 0, 13, 27, 160, 0, 18]
abbrev dktX3_has_0 : List UInt8 := dkwX3_has_0 ++ dktX3_has_1
theorem dksX3_has_0 : cX3_has.data.toList.drop 0 = dktX3_has_0 := by decide +kernel
theorem dksX3_has_1 : cX3_has.data.toList.drop 24 = dktX3_has_1 := dk_seg dksX3_has_0 24 rfl rfl
theorem dX3_has_0 : decode cX3_has 0 = .ok (.iconst 0, 1) := dk_3 (dk_at dksX3_has_0 0 rfl rfl)
theorem dX3_has_1 : decode cX3_has 1 = .ok (.istore_n 3, 1) := dk_62 (dk_at dksX3_has_0 1 rfl rfl)
theorem dX3_has_2 : decode cX3_has 2 = .ok (.iload_n 3, 1) := dk_29 (dk_at dksX3_has_0 2 rfl rfl)
theorem dX3_has_3 : decode cX3_has 3 = .ok (.aload_n 0, 1) := dk_42 (dk_at dksX3_has_0 3 rfl rfl)
theorem dX3_has_4 : decode cX3_has 4 = .ok (.getfield 7, 3) := dk_180 0 7 (dk_at dksX3_has_0 4 rfl rfl)
theorem dX3_has_7 : decode cX3_has 7 = .ok (.arraylength, 1) := dk_190 (dk_at dksX3_has_0 7 rfl rfl)
theorem dX3_has_8 : decode cX3_has 8 = .ok (.if_icmp .ge 37, 3) := dk_162 0 37 (dk_at dksX3_has_0 8 rfl rfl)
theorem dX3_has_11 : decode cX3_has 11 = .ok (.aload_n 0, 1) := dk_42 (dk_at dksX3_has_0 11 rfl rfl)
theorem dX3_has_12 : decode cX3_has 12 = .ok (.getfield 7, 3) := dk_180 0 7 (dk_at dksX3_has_0 12 rfl rfl)
theorem dX3_has_15 : decode cX3_has 15 = .ok (.iload_n 3, 1) := dk_29 (dk_at dksX3_has_0 15 rfl rfl)
theorem dX3_has_16 : decode cX3_has 16 = .ok (.aaload, 1) := dk_50 (dk_at dksX3_has_0 16 rfl rfl)
theorem dX3_has_17 : decode cX3_has 17 = .ok (.getfield 13, 3) := dk_180 0 13 (dk_at dksX3_has_0 17 rfl rfl)
theorem dX3_has_20 : decode cX3_has 20 = .ok (.iload_n 1, 1) := dk_27 (dk_at dksX3_has_0 20 rfl rfl)
theorem dX3_has_21 : decode cX3_has 21 = .ok (.if_icmp .ne 18, 3) := dk_160 0 18 (dk_at dksX3_has_0 21 rfl rfl)
theorem dX3_has_24 : decode cX3_has 24 = .ok (.aload_n 0, 1) := dk_42 (dk_at dksX3_has_1 0 rfl rfl)
theorem dX3_has_25 : decode cX3_has 25 = .ok (.getfield 7, 3) := dk_180 0 7 (dk_at dksX3_has_1 1 rfl rfl)
theorem dX3_has_28 : decode cX3_has 28 = .ok (.iload_n 3, 1) := dk_29 (dk_at dksX3_has_1 4 rfl rfl)
theorem dX3_has_29 : decode cX3_has 29 = .ok (.aaload, 1) := dk_50 (dk_at dksX3_has_1 5 rfl rfl)
theorem dX3_has_30 : decode cX3_has 30 = .ok (.aload_n 2, 1) := dk_44 (dk_at dksX3_has_1 6 rfl rfl)
theorem dX3_has_31 : decode cX3_has 31 = .ok (.invokevirtual 19, 3) := dk_182 0 19 (dk_at dksX3_has_1 7 rfl rfl)
theorem dX3_has_34 : decode cX3_has 34 = .ok (.ifCond .eq 5, 3) := dk_153 0 5 (dk_at dksX3_has_1 10 rfl rfl)
theorem dX3_has_37 : decode cX3_has 37 = .ok (.iconst 1, 1) := dk_4 (dk_at dksX3_has_1 13 rfl rfl)
theorem dX3_has_38 : decode cX3_has 38 = .ok (.ireturn, 1) := dk_172 (dk_at dksX3_has_1 14 rfl rfl)
theorem dX3_has_39 : decode cX3_has 39 = .ok (.iinc 3 1, 3) := dk_132 3 1 (dk_at dksX3_has_1 15 rfl rfl)
theorem dX3_has_42 : decode cX3_has 42 = .ok (.goto (-40), 3) := dk_167 255 216 (dk_at dksX3_has_1 18 rfl rfl)
theorem dX3_has_45 : decode cX3_has 45 = .ok (.iconst 0, 1) := dk_3 (dk_at dksX3_has_1 21 rfl rfl)
theorem dX3_has_46 : decode cX3_has 46 = .ok (.ireturn, 1) := dk_172 (dk_at dksX3_has_1 22 rfl rfl)
theorem q92 : (Jvm.Cond.initialized "FiveTouch$Text") ∈ lw_all := lw_g (lw_at lw_m1 7 rfl) rfl
theorem q223 : (Jvm.Cond.instantiable "FiveTouch$Text" (1 : Nat)) ∈ lw_all := lw_g (lw_at lw_m1 138 rfl) rfl
theorem q227 : (Jvm.Cond.instanceMethod ({ cls := "FiveTouch$Text", name := "<init>", desc := "([LFiveTouch$Clause;)V" } : Jvm.MethodName)) ∈ lw_all := lw_g (lw_at lw_m1 142 rfl) rfl
theorem q228 : (Jvm.Cond.code ({ cls := "FiveTouch$Text", name := "<init>", desc := "([LFiveTouch$Clause;)V" } : Jvm.MethodName) prog_21_method_1_code (2 : Nat) (Option.none : Option Jvm.ClassFile.FieldType)) ∈ lw_all := lw_g (lw_at lw_m1 143 rfl) rfl
theorem q229 : (Jvm.Cond.methodLink "FiveTouch$Text" (1 : Nat) ({ cls := "java/lang/Object", name := "<init>", desc := "()V" } : Jvm.MethodName)) ∈ lw_all := lw_g (lw_at lw_m1 144 rfl) rfl
theorem q230 : (Jvm.Cond.fieldLink "FiveTouch$Text" (7 : Nat) "FiveTouch$Text" "clauses" "[LFiveTouch$Clause;") ∈ lw_all := lw_g (lw_at lw_m1 145 rfl) rfl
theorem q231 : (Jvm.Cond.laysFinal "FiveTouch$Text" "FiveTouch$Text" "clauses" "[LFiveTouch$Clause;") ∈ lw_all := lw_g (lw_at lw_m1 146 rfl) rfl
theorem q232 : (Jvm.Cond.soleField "FiveTouch$Text" "clauses") ∈ lw_all := lw_g (lw_at lw_m1 147 rfl) rfl
theorem q233 : (Jvm.Cond.superclass "FiveTouch$Text" "java/lang/Object") ∈ lw_all := lw_g (lw_at lw_m1 148 rfl) rfl
theorem q479 : (Jvm.Cond.selects "FiveTouch$Text" ({ cls := "java/lang/Object", name := "getClass", desc := "()Ljava/lang/Class;" } : Jvm.MethodName) ({ cls := "java/lang/Object", name := "getClass", desc := "()Ljava/lang/Class;" } : Jvm.MethodName)) ∈ lw_all := lw_g (lw_at lw_m2 154 rfl) rfl
theorem q932 : (Jvm.Cond.fieldLinkNest "FiveTouch$Text" (13 : Nat) "FiveTouch$Clause" "head" "I" "FiveTouch") ∈ lw_tbl := lw_at lw_m4 127 rfl
theorem q936 : (Jvm.Cond.fieldLinkNest "FiveTouch$Text" (23 : Nat) "FiveTouch$Clause" "told" "J" "FiveTouch") ∈ lw_tbl := lw_at lw_m4 131 rfl
theorem q985 : (Jvm.Cond.instanceMethod ({ cls := "FiveTouch$Text", name := "tells", desc := "(ILFiveTouch$Asked;J)J" } : Jvm.MethodName)) ∈ lw_all := lw_g (lw_at lw_m4 180 rfl) rfl
theorem q986 : (Jvm.Cond.selects "FiveTouch$Text" ({ cls := "FiveTouch$Text", name := "tells", desc := "(ILFiveTouch$Asked;J)J" } : Jvm.MethodName) ({ cls := "FiveTouch$Text", name := "tells", desc := "(ILFiveTouch$Asked;J)J" } : Jvm.MethodName)) ∈ lw_all := lw_g (lw_at lw_m4 181 rfl) rfl
theorem q987 : (Jvm.Cond.code ({ cls := "FiveTouch$Text", name := "tells", desc := "(ILFiveTouch$Asked;J)J" } : Jvm.MethodName) prog_21_method_3_code (8 : Nat) (Option.some Jvm.ClassFile.FieldType.long)) ∈ lw_all := lw_g (lw_at lw_m4 182 rfl) rfl
theorem q988 : (Jvm.Cond.methodLink "FiveTouch$Text" (19 : Nat) ({ cls := "FiveTouch$Clause", name := "holds", desc := "(LFiveTouch$Asked;)Z" } : Jvm.MethodName)) ∈ lw_all := lw_g (lw_at lw_m4 183 rfl) rfl
theorem q1033 : (Jvm.Cond.instanceMethod ({ cls := "FiveTouch$Text", name := "has", desc := "(ILFiveTouch$Asked;)Z" } : Jvm.MethodName)) ∈ lw_all := lw_g (lw_at lw_m4 228 rfl) rfl
theorem q1034 : (Jvm.Cond.selects "FiveTouch$Text" ({ cls := "FiveTouch$Text", name := "has", desc := "(ILFiveTouch$Asked;)Z" } : Jvm.MethodName) ({ cls := "FiveTouch$Text", name := "has", desc := "(ILFiveTouch$Asked;)Z" } : Jvm.MethodName)) ∈ lw_all := lw_g (lw_at lw_m4 229 rfl) rfl
theorem q1035 : (Jvm.Cond.code ({ cls := "FiveTouch$Text", name := "has", desc := "(ILFiveTouch$Asked;)Z" } : Jvm.MethodName) prog_21_method_2_code (4 : Nat) (Option.some Jvm.ClassFile.FieldType.boolean)) ∈ lw_all := lw_g (lw_at lw_m4 230 rfl) rfl
theorem q1864 : (Jvm.Cond.castable "FiveTouch$Text" "java/lang/Object") ∈ lw_tbl := lw_at lw_m8 99 rfl
theorem in_X3 : ∀ w ∈ wsX30, w ∈ lw_all := lw_in wsX30 [231] (by decide +kernel) (by decide +kernel)
/-! FiveTouch$Scene -/
set_option maxRecDepth 100000
def RX4 : String := "FiveTouch$Scene"
def TX4 : u_T := fun k => match k with
  | 0 => ("FiveTouch$Scene", "needs", "[I", true)
  | 1 => ("FiveTouch$Scene", "more", "[I", true)
  | 2 => ("FiveTouch$Scene", "near", "[I", true)
  | 3 => ("FiveTouch$Scene", "bound", "I", false)
  | 4 => ("FiveTouch$Scene", "isMade", "Z", false)
  | _ => ("FiveTouch$Scene", "this$0", "LFiveTouch;", true)
def tyX4 : Nat → FieldType := fun k => match k with
  | 0 => .array .int
  | 1 => .array .int
  | 2 => .array .int
  | 3 => .int
  | 4 => .boolean
  | _ => .object "FiveTouch"
abbrev wsX40 : List Cond := u_ws RX4 TX4 6
theorem nmX4 : ∀ a, a < 6 → ∀ b, b < 6 → a ≠ b → (TX4 a).2.1 ≠ (TX4 b).2.1 := by decide +kernel
theorem tyX4_ok : ∀ k, k < 6 → parseFieldDescriptor (TX4 k).2.2.1 = some (tyX4 k) := by decide +kernel
abbrev cX4_init : ByteArray := prog_16_method_1_code
def yX4_init : MethodName := ⟨RX4, "<init>", "(LFiveTouch;)V"⟩
def dkwX4_init_1 : List UInt8 := [181, 0, 19, 42, 16, 22, 188, 10, 181, 0, 22, 177]
abbrev dktX4_init_1 : List UInt8 := dkwX4_init_1 ++ []
def dkwX4_init_0 : List UInt8 := [42, 43, 181, 0, 3, 42, 183, 0, 9, 42, 16, 22, 188, 10, 181, 0, 15, 42, 16, 22, 188, 10]
abbrev dktX4_init_0 : List UInt8 := dkwX4_init_0 ++ dktX4_init_1
theorem dksX4_init_0 : cX4_init.data.toList.drop 0 = dktX4_init_0 := by decide +kernel
theorem dksX4_init_1 : cX4_init.data.toList.drop 22 = dktX4_init_1 := dk_seg dksX4_init_0 22 rfl rfl
theorem dX4_init_0 : decode cX4_init 0 = .ok (.aload_n 0, 1) := dk_42 (dk_at dksX4_init_0 0 rfl rfl)
theorem dX4_init_1 : decode cX4_init 1 = .ok (.aload_n 1, 1) := dk_43 (dk_at dksX4_init_0 1 rfl rfl)
theorem dX4_init_2 : decode cX4_init 2 = .ok (.putfield 3, 3) := dk_181 0 3 (dk_at dksX4_init_0 2 rfl rfl)
theorem dX4_init_5 : decode cX4_init 5 = .ok (.aload_n 0, 1) := dk_42 (dk_at dksX4_init_0 5 rfl rfl)
theorem dX4_init_6 : decode cX4_init 6 = .ok (.invokespecial 9, 3) := dk_183 0 9 (dk_at dksX4_init_0 6 rfl rfl)
theorem dX4_init_9 : decode cX4_init 9 = .ok (.aload_n 0, 1) := dk_42 (dk_at dksX4_init_0 9 rfl rfl)
theorem dX4_init_10 : decode cX4_init 10 = .ok (.bipush 22, 2) := dk_16 22 (dk_at dksX4_init_0 10 rfl rfl)
theorem dX4_init_12 : decode cX4_init 12 = .ok (.newarray .int, 2) := dk_188_10 (dk_at dksX4_init_0 12 rfl rfl)
theorem dX4_init_14 : decode cX4_init 14 = .ok (.putfield 15, 3) := dk_181 0 15 (dk_at dksX4_init_0 14 rfl rfl)
theorem dX4_init_17 : decode cX4_init 17 = .ok (.aload_n 0, 1) := dk_42 (dk_at dksX4_init_0 17 rfl rfl)
theorem dX4_init_18 : decode cX4_init 18 = .ok (.bipush 22, 2) := dk_16 22 (dk_at dksX4_init_0 18 rfl rfl)
theorem dX4_init_20 : decode cX4_init 20 = .ok (.newarray .int, 2) := dk_188_10 (dk_at dksX4_init_0 20 rfl rfl)
theorem dX4_init_22 : decode cX4_init 22 = .ok (.putfield 19, 3) := dk_181 0 19 (dk_at dksX4_init_1 0 rfl rfl)
theorem dX4_init_25 : decode cX4_init 25 = .ok (.aload_n 0, 1) := dk_42 (dk_at dksX4_init_1 3 rfl rfl)
theorem dX4_init_26 : decode cX4_init 26 = .ok (.bipush 22, 2) := dk_16 22 (dk_at dksX4_init_1 4 rfl rfl)
theorem dX4_init_28 : decode cX4_init 28 = .ok (.newarray .int, 2) := dk_188_10 (dk_at dksX4_init_1 6 rfl rfl)
theorem dX4_init_30 : decode cX4_init 30 = .ok (.putfield 22, 3) := dk_181 0 22 (dk_at dksX4_init_1 8 rfl rfl)
theorem dX4_init_33 : decode cX4_init 33 = .ok (.return_, 1) := dk_177 (dk_at dksX4_init_1 11 rfl rfl)
abbrev cX4_make : ByteArray := prog_16_method_2_code
def yX4_make : MethodName := ⟨RX4, "make", "()LFiveTouch$Scene;"⟩
def dkwX4_make_7 : List UInt8 := [132, 1, 1, 167, 255, 110, 42, 176]
abbrev dktX4_make_7 : List UInt8 := dkwX4_make_7 ++ []
def dkwX4_make_6 : List UInt8 := [182, 0, 59, 153, 0, 15, 42, 180, 0, 22, 27, 92, 46, 4, 29, 120, 128, 79, 132, 3, 1, 167, 255, 203]
abbrev dktX4_make_6 : List UInt8 := dkwX4_make_6 ++ dktX4_make_7
def dkwX4_make_5 : List UInt8 := [180, 0, 33, 29, 182, 0, 37, 198, 0, 33, 44, 42, 180, 0, 3, 180, 0, 33, 29, 182, 0, 37]
abbrev dktX4_make_5 : List UInt8 := dkwX4_make_5 ++ dktX4_make_6
def dkwX4_make_4 : List UInt8 := [180, 0, 33, 180, 0, 52, 5, 46, 104, 96, 79, 3, 62, 29, 16, 22, 162, 0, 53, 42, 180, 0, 3]
abbrev dktX4_make_4 : List UInt8 := dkwX4_make_4 ++ dktX4_make_5
def dkwX4_make_3 : List UInt8 := [42, 180, 0, 3, 180, 0, 33, 180, 0, 52, 4, 46, 167, 0, 4, 3, 44, 182, 0, 55, 42, 180, 0, 3]
abbrev dktX4_make_3 : List UInt8 := dkwX4_make_3 ++ dktX4_make_4
def dkwX4_make_2 : List UInt8 := [199, 0, 6, 167, 0, 114, 42, 27, 44, 182, 0, 43, 42, 180, 0, 19, 27, 44, 180, 0, 47, 154, 0, 18]
abbrev dktX4_make_2 : List UInt8 := dkwX4_make_2 ++ dktX4_make_3
def dkwX4_make_1 : List UInt8 := [162, 0, 146, 42, 180, 0, 3, 180, 0, 33, 27, 182, 0, 37, 77, 42, 180, 0, 22, 27, 3, 79, 44]
abbrev dktX4_make_1 : List UInt8 := dkwX4_make_1 ++ dktX4_make_2
def dkwX4_make_0 : List UInt8 := [42, 180, 0, 25, 153, 0, 5, 42, 176, 42, 4, 181, 0, 25, 42, 3, 181, 0, 29, 3, 60, 27, 16, 22]
abbrev dktX4_make_0 : List UInt8 := dkwX4_make_0 ++ dktX4_make_1
theorem dksX4_make_0 : cX4_make.data.toList.drop 0 = dktX4_make_0 := by decide +kernel
theorem dksX4_make_1 : cX4_make.data.toList.drop 24 = dktX4_make_1 := dk_seg dksX4_make_0 24 rfl rfl
theorem dksX4_make_2 : cX4_make.data.toList.drop 47 = dktX4_make_2 := dk_seg dksX4_make_1 23 rfl rfl
theorem dksX4_make_3 : cX4_make.data.toList.drop 71 = dktX4_make_3 := dk_seg dksX4_make_2 24 rfl rfl
theorem dksX4_make_4 : cX4_make.data.toList.drop 95 = dktX4_make_4 := dk_seg dksX4_make_3 24 rfl rfl
theorem dksX4_make_5 : cX4_make.data.toList.drop 118 = dktX4_make_5 := dk_seg dksX4_make_4 23 rfl rfl
theorem dksX4_make_6 : cX4_make.data.toList.drop 140 = dktX4_make_6 := dk_seg dksX4_make_5 22 rfl rfl
theorem dksX4_make_7 : cX4_make.data.toList.drop 164 = dktX4_make_7 := dk_seg dksX4_make_6 24 rfl rfl
theorem dX4_make_0 : decode cX4_make 0 = .ok (.aload_n 0, 1) := dk_42 (dk_at dksX4_make_0 0 rfl rfl)
theorem dX4_make_1 : decode cX4_make 1 = .ok (.getfield 25, 3) := dk_180 0 25 (dk_at dksX4_make_0 1 rfl rfl)
theorem dX4_make_4 : decode cX4_make 4 = .ok (.ifCond .eq 5, 3) := dk_153 0 5 (dk_at dksX4_make_0 4 rfl rfl)
theorem dX4_make_7 : decode cX4_make 7 = .ok (.aload_n 0, 1) := dk_42 (dk_at dksX4_make_0 7 rfl rfl)
theorem dX4_make_8 : decode cX4_make 8 = .ok (.areturn, 1) := dk_176 (dk_at dksX4_make_0 8 rfl rfl)
theorem dX4_make_9 : decode cX4_make 9 = .ok (.aload_n 0, 1) := dk_42 (dk_at dksX4_make_0 9 rfl rfl)
theorem dX4_make_10 : decode cX4_make 10 = .ok (.iconst 1, 1) := dk_4 (dk_at dksX4_make_0 10 rfl rfl)
theorem dX4_make_11 : decode cX4_make 11 = .ok (.putfield 25, 3) := dk_181 0 25 (dk_at dksX4_make_0 11 rfl rfl)
theorem dX4_make_14 : decode cX4_make 14 = .ok (.aload_n 0, 1) := dk_42 (dk_at dksX4_make_0 14 rfl rfl)
theorem dX4_make_15 : decode cX4_make 15 = .ok (.iconst 0, 1) := dk_3 (dk_at dksX4_make_0 15 rfl rfl)
theorem dX4_make_16 : decode cX4_make 16 = .ok (.putfield 29, 3) := dk_181 0 29 (dk_at dksX4_make_0 16 rfl rfl)
theorem dX4_make_19 : decode cX4_make 19 = .ok (.iconst 0, 1) := dk_3 (dk_at dksX4_make_0 19 rfl rfl)
theorem dX4_make_20 : decode cX4_make 20 = .ok (.istore_n 1, 1) := dk_60 (dk_at dksX4_make_0 20 rfl rfl)
theorem dX4_make_21 : decode cX4_make 21 = .ok (.iload_n 1, 1) := dk_27 (dk_at dksX4_make_0 21 rfl rfl)
theorem dX4_make_22 : decode cX4_make 22 = .ok (.bipush 22, 2) := dk_16 22 (dk_at dksX4_make_0 22 rfl rfl)
theorem dX4_make_24 : decode cX4_make 24 = .ok (.if_icmp .ge 146, 3) := dk_162 0 146 (dk_at dksX4_make_1 0 rfl rfl)
theorem dX4_make_27 : decode cX4_make 27 = .ok (.aload_n 0, 1) := dk_42 (dk_at dksX4_make_1 3 rfl rfl)
theorem dX4_make_28 : decode cX4_make 28 = .ok (.getfield 3, 3) := dk_180 0 3 (dk_at dksX4_make_1 4 rfl rfl)
theorem dX4_make_31 : decode cX4_make 31 = .ok (.getfield 33, 3) := dk_180 0 33 (dk_at dksX4_make_1 7 rfl rfl)
theorem dX4_make_34 : decode cX4_make 34 = .ok (.iload_n 1, 1) := dk_27 (dk_at dksX4_make_1 10 rfl rfl)
theorem dX4_make_35 : decode cX4_make 35 = .ok (.invokevirtual 37, 3) := dk_182 0 37 (dk_at dksX4_make_1 11 rfl rfl)
theorem dX4_make_38 : decode cX4_make 38 = .ok (.astore_n 2, 1) := dk_77 (dk_at dksX4_make_1 14 rfl rfl)
theorem dX4_make_39 : decode cX4_make 39 = .ok (.aload_n 0, 1) := dk_42 (dk_at dksX4_make_1 15 rfl rfl)
theorem dX4_make_40 : decode cX4_make 40 = .ok (.getfield 22, 3) := dk_180 0 22 (dk_at dksX4_make_1 16 rfl rfl)
theorem dX4_make_43 : decode cX4_make 43 = .ok (.iload_n 1, 1) := dk_27 (dk_at dksX4_make_1 19 rfl rfl)
theorem dX4_make_44 : decode cX4_make 44 = .ok (.iconst 0, 1) := dk_3 (dk_at dksX4_make_1 20 rfl rfl)
theorem dX4_make_45 : decode cX4_make 45 = .ok (.iastore, 1) := dk_79 (dk_at dksX4_make_1 21 rfl rfl)
theorem dX4_make_46 : decode cX4_make 46 = .ok (.aload_n 2, 1) := dk_44 (dk_at dksX4_make_1 22 rfl rfl)
theorem dX4_make_47 : decode cX4_make 47 = .ok (.ifnonnull 6, 3) := dk_199 0 6 (dk_at dksX4_make_2 0 rfl rfl)
theorem dX4_make_50 : decode cX4_make 50 = .ok (.goto 114, 3) := dk_167 0 114 (dk_at dksX4_make_2 3 rfl rfl)
theorem dX4_make_53 : decode cX4_make 53 = .ok (.aload_n 0, 1) := dk_42 (dk_at dksX4_make_2 6 rfl rfl)
theorem dX4_make_54 : decode cX4_make 54 = .ok (.iload_n 1, 1) := dk_27 (dk_at dksX4_make_2 7 rfl rfl)
theorem dX4_make_55 : decode cX4_make 55 = .ok (.aload_n 2, 1) := dk_44 (dk_at dksX4_make_2 8 rfl rfl)
theorem dX4_make_56 : decode cX4_make 56 = .ok (.invokevirtual 43, 3) := dk_182 0 43 (dk_at dksX4_make_2 9 rfl rfl)
theorem dX4_make_59 : decode cX4_make 59 = .ok (.aload_n 0, 1) := dk_42 (dk_at dksX4_make_2 12 rfl rfl)
theorem dX4_make_60 : decode cX4_make 60 = .ok (.getfield 19, 3) := dk_180 0 19 (dk_at dksX4_make_2 13 rfl rfl)
theorem dX4_make_63 : decode cX4_make 63 = .ok (.iload_n 1, 1) := dk_27 (dk_at dksX4_make_2 16 rfl rfl)
theorem dX4_make_64 : decode cX4_make 64 = .ok (.aload_n 2, 1) := dk_44 (dk_at dksX4_make_2 17 rfl rfl)
theorem dX4_make_65 : decode cX4_make 65 = .ok (.getfield 47, 3) := dk_180 0 47 (dk_at dksX4_make_2 18 rfl rfl)
theorem dX4_make_68 : decode cX4_make 68 = .ok (.ifCond .ne 18, 3) := dk_154 0 18 (dk_at dksX4_make_2 21 rfl rfl)
theorem dX4_make_71 : decode cX4_make 71 = .ok (.aload_n 0, 1) := dk_42 (dk_at dksX4_make_3 0 rfl rfl)
theorem dX4_make_72 : decode cX4_make 72 = .ok (.getfield 3, 3) := dk_180 0 3 (dk_at dksX4_make_3 1 rfl rfl)
theorem dX4_make_75 : decode cX4_make 75 = .ok (.getfield 33, 3) := dk_180 0 33 (dk_at dksX4_make_3 4 rfl rfl)
theorem dX4_make_78 : decode cX4_make 78 = .ok (.getfield 52, 3) := dk_180 0 52 (dk_at dksX4_make_3 7 rfl rfl)
theorem dX4_make_81 : decode cX4_make 81 = .ok (.iconst 1, 1) := dk_4 (dk_at dksX4_make_3 10 rfl rfl)
theorem dX4_make_82 : decode cX4_make 82 = .ok (.iaload, 1) := dk_46 (dk_at dksX4_make_3 11 rfl rfl)
theorem dX4_make_83 : decode cX4_make 83 = .ok (.goto 4, 3) := dk_167 0 4 (dk_at dksX4_make_3 12 rfl rfl)
theorem dX4_make_86 : decode cX4_make 86 = .ok (.iconst 0, 1) := dk_3 (dk_at dksX4_make_3 15 rfl rfl)
theorem dX4_make_87 : decode cX4_make 87 = .ok (.aload_n 2, 1) := dk_44 (dk_at dksX4_make_3 16 rfl rfl)
theorem dX4_make_88 : decode cX4_make 88 = .ok (.invokevirtual 55, 3) := dk_182 0 55 (dk_at dksX4_make_3 17 rfl rfl)
theorem dX4_make_91 : decode cX4_make 91 = .ok (.aload_n 0, 1) := dk_42 (dk_at dksX4_make_3 20 rfl rfl)
theorem dX4_make_92 : decode cX4_make 92 = .ok (.getfield 3, 3) := dk_180 0 3 (dk_at dksX4_make_3 21 rfl rfl)
theorem dX4_make_95 : decode cX4_make 95 = .ok (.getfield 33, 3) := dk_180 0 33 (dk_at dksX4_make_4 0 rfl rfl)
theorem dX4_make_98 : decode cX4_make 98 = .ok (.getfield 52, 3) := dk_180 0 52 (dk_at dksX4_make_4 3 rfl rfl)
theorem dX4_make_101 : decode cX4_make 101 = .ok (.iconst 2, 1) := dk_5 (dk_at dksX4_make_4 6 rfl rfl)
theorem dX4_make_102 : decode cX4_make 102 = .ok (.iaload, 1) := dk_46 (dk_at dksX4_make_4 7 rfl rfl)
theorem dX4_make_103 : decode cX4_make 103 = .ok (.imul, 1) := dk_104 (dk_at dksX4_make_4 8 rfl rfl)
theorem dX4_make_104 : decode cX4_make 104 = .ok (.iadd, 1) := dk_96 (dk_at dksX4_make_4 9 rfl rfl)
theorem dX4_make_105 : decode cX4_make 105 = .ok (.iastore, 1) := dk_79 (dk_at dksX4_make_4 10 rfl rfl)
theorem dX4_make_106 : decode cX4_make 106 = .ok (.iconst 0, 1) := dk_3 (dk_at dksX4_make_4 11 rfl rfl)
theorem dX4_make_107 : decode cX4_make 107 = .ok (.istore_n 3, 1) := dk_62 (dk_at dksX4_make_4 12 rfl rfl)
theorem dX4_make_108 : decode cX4_make 108 = .ok (.iload_n 3, 1) := dk_29 (dk_at dksX4_make_4 13 rfl rfl)
theorem dX4_make_109 : decode cX4_make 109 = .ok (.bipush 22, 2) := dk_16 22 (dk_at dksX4_make_4 14 rfl rfl)
theorem dX4_make_111 : decode cX4_make 111 = .ok (.if_icmp .ge 53, 3) := dk_162 0 53 (dk_at dksX4_make_4 16 rfl rfl)
theorem dX4_make_114 : decode cX4_make 114 = .ok (.aload_n 0, 1) := dk_42 (dk_at dksX4_make_4 19 rfl rfl)
theorem dX4_make_115 : decode cX4_make 115 = .ok (.getfield 3, 3) := dk_180 0 3 (dk_at dksX4_make_4 20 rfl rfl)
theorem dX4_make_118 : decode cX4_make 118 = .ok (.getfield 33, 3) := dk_180 0 33 (dk_at dksX4_make_5 0 rfl rfl)
theorem dX4_make_121 : decode cX4_make 121 = .ok (.iload_n 3, 1) := dk_29 (dk_at dksX4_make_5 3 rfl rfl)
theorem dX4_make_122 : decode cX4_make 122 = .ok (.invokevirtual 37, 3) := dk_182 0 37 (dk_at dksX4_make_5 4 rfl rfl)
theorem dX4_make_125 : decode cX4_make 125 = .ok (.ifnull 33, 3) := dk_198 0 33 (dk_at dksX4_make_5 7 rfl rfl)
theorem dX4_make_128 : decode cX4_make 128 = .ok (.aload_n 2, 1) := dk_44 (dk_at dksX4_make_5 10 rfl rfl)
theorem dX4_make_129 : decode cX4_make 129 = .ok (.aload_n 0, 1) := dk_42 (dk_at dksX4_make_5 11 rfl rfl)
theorem dX4_make_130 : decode cX4_make 130 = .ok (.getfield 3, 3) := dk_180 0 3 (dk_at dksX4_make_5 12 rfl rfl)
theorem dX4_make_133 : decode cX4_make 133 = .ok (.getfield 33, 3) := dk_180 0 33 (dk_at dksX4_make_5 15 rfl rfl)
theorem dX4_make_136 : decode cX4_make 136 = .ok (.iload_n 3, 1) := dk_29 (dk_at dksX4_make_5 18 rfl rfl)
theorem dX4_make_137 : decode cX4_make 137 = .ok (.invokevirtual 37, 3) := dk_182 0 37 (dk_at dksX4_make_5 19 rfl rfl)
theorem dX4_make_140 : decode cX4_make 140 = .ok (.invokevirtual 59, 3) := dk_182 0 59 (dk_at dksX4_make_6 0 rfl rfl)
theorem dX4_make_143 : decode cX4_make 143 = .ok (.ifCond .eq 15, 3) := dk_153 0 15 (dk_at dksX4_make_6 3 rfl rfl)
theorem dX4_make_146 : decode cX4_make 146 = .ok (.aload_n 0, 1) := dk_42 (dk_at dksX4_make_6 6 rfl rfl)
theorem dX4_make_147 : decode cX4_make 147 = .ok (.getfield 22, 3) := dk_180 0 22 (dk_at dksX4_make_6 7 rfl rfl)
theorem dX4_make_150 : decode cX4_make 150 = .ok (.iload_n 1, 1) := dk_27 (dk_at dksX4_make_6 10 rfl rfl)
theorem dX4_make_151 : decode cX4_make 151 = .ok (.dup2, 1) := dk_92 (dk_at dksX4_make_6 11 rfl rfl)
theorem dX4_make_152 : decode cX4_make 152 = .ok (.iaload, 1) := dk_46 (dk_at dksX4_make_6 12 rfl rfl)
theorem dX4_make_153 : decode cX4_make 153 = .ok (.iconst 1, 1) := dk_4 (dk_at dksX4_make_6 13 rfl rfl)
theorem dX4_make_154 : decode cX4_make 154 = .ok (.iload_n 3, 1) := dk_29 (dk_at dksX4_make_6 14 rfl rfl)
theorem dX4_make_155 : decode cX4_make 155 = .ok (.ishl, 1) := dk_120 (dk_at dksX4_make_6 15 rfl rfl)
theorem dX4_make_156 : decode cX4_make 156 = .ok (.ior, 1) := dk_128 (dk_at dksX4_make_6 16 rfl rfl)
theorem dX4_make_157 : decode cX4_make 157 = .ok (.iastore, 1) := dk_79 (dk_at dksX4_make_6 17 rfl rfl)
theorem dX4_make_158 : decode cX4_make 158 = .ok (.iinc 3 1, 3) := dk_132 3 1 (dk_at dksX4_make_6 18 rfl rfl)
theorem dX4_make_161 : decode cX4_make 161 = .ok (.goto (-53), 3) := dk_167 255 203 (dk_at dksX4_make_6 21 rfl rfl)
theorem dX4_make_164 : decode cX4_make 164 = .ok (.iinc 1 1, 3) := dk_132 1 1 (dk_at dksX4_make_7 0 rfl rfl)
theorem dX4_make_167 : decode cX4_make 167 = .ok (.goto (-146), 3) := dk_167 255 110 (dk_at dksX4_make_7 3 rfl rfl)
theorem dX4_make_170 : decode cX4_make 170 = .ok (.aload_n 0, 1) := dk_42 (dk_at dksX4_make_7 6 rfl rfl)
theorem dX4_make_171 : decode cX4_make 171 = .ok (.areturn, 1) := dk_176 (dk_at dksX4_make_7 7 rfl rfl)
abbrev cX4_ask : ByteArray := prog_16_method_3_code
def yX4_ask : MethodName := ⟨RX4, "ask", "(ILFiveTouch$Stone;)V"⟩
def dkwX4_ask_9 : List UInt8 := [180, 0, 63, 182, 0, 112, 153, 0, 9, 4, 27, 120, 167, 0, 4, 3, 128, 181, 0, 29, 177]
abbrev dktX4_ask_9 : List UInt8 := dkwX4_ask_9 ++ []
def dkwX4_ask_8 : List UInt8 := [133, 182, 0, 97, 184, 0, 103, 184, 0, 109, 136, 79, 42, 89, 180, 0, 29, 45, 4, 42, 180, 0, 3]
abbrev dktX4_ask_8 : List UInt8 := dkwX4_ask_8 ++ dktX4_ask_9
def dkwX4_ask_7 : List UInt8 := [20, 0, 93, 45, 3, 42, 180, 0, 3, 180, 0, 63, 42, 180, 0, 3, 180, 0, 33, 180, 0, 52, 3, 46]
abbrev dktX4_ask_7 : List UInt8 := dkwX4_ask_7 ++ dktX4_ask_8
def dkwX4_ask_6 : List UInt8 := [180, 0, 3, 180, 0, 33, 42, 180, 0, 3, 180, 0, 85, 182, 0, 89, 78, 42, 180, 0, 15, 27, 9]
abbrev dktX4_ask_6 : List UInt8 := dkwX4_ask_6 ++ dktX4_ask_7
def dkwX4_ask_5 : List UInt8 := [46, 133, 80, 42, 180, 0, 3, 180, 0, 63, 180, 0, 67, 16, 7, 44, 180, 0, 82, 5, 46, 133, 80, 42]
abbrev dktX4_ask_5 : List UInt8 := dkwX4_ask_5 ++ dktX4_ask_6
def dkwX4_ask_4 : List UInt8 := [180, 0, 82, 3, 46, 133, 80, 42, 180, 0, 3, 180, 0, 63, 180, 0, 67, 16, 6, 44, 180, 0, 82, 4]
abbrev dktX4_ask_4 : List UInt8 := dkwX4_ask_4 ++ dktX4_ask_5
def dkwX4_ask_3 : List UInt8 := [180, 0, 67, 7, 44, 180, 0, 79, 133, 80, 42, 180, 0, 3, 180, 0, 63, 180, 0, 67, 8, 44]
abbrev dktX4_ask_3 : List UInt8 := dkwX4_ask_3 ++ dktX4_ask_4
def dkwX4_ask_2 : List UInt8 := [42, 180, 0, 3, 180, 0, 63, 180, 0, 67, 6, 44, 180, 0, 76, 133, 80, 42, 180, 0, 3, 180, 0, 63]
abbrev dktX4_ask_2 : List UInt8 := dkwX4_ask_2 ++ dktX4_ask_3
def dkwX4_ask_1 : List UInt8 := [4, 44, 180, 0, 73, 133, 80, 42, 180, 0, 3, 180, 0, 63, 180, 0, 67, 5, 44, 180, 0, 47, 133, 80]
abbrev dktX4_ask_1 : List UInt8 := dkwX4_ask_1 ++ dktX4_ask_2
def dkwX4_ask_0 : List UInt8 := [42, 180, 0, 3, 180, 0, 63, 180, 0, 67, 3, 27, 133, 80, 42, 180, 0, 3, 180, 0, 63, 180, 0, 67]
abbrev dktX4_ask_0 : List UInt8 := dkwX4_ask_0 ++ dktX4_ask_1
theorem dksX4_ask_0 : cX4_ask.data.toList.drop 0 = dktX4_ask_0 := by decide +kernel
theorem dksX4_ask_1 : cX4_ask.data.toList.drop 24 = dktX4_ask_1 := dk_seg dksX4_ask_0 24 rfl rfl
theorem dksX4_ask_2 : cX4_ask.data.toList.drop 48 = dktX4_ask_2 := dk_seg dksX4_ask_1 24 rfl rfl
theorem dksX4_ask_3 : cX4_ask.data.toList.drop 72 = dktX4_ask_3 := dk_seg dksX4_ask_2 24 rfl rfl
theorem dksX4_ask_4 : cX4_ask.data.toList.drop 94 = dktX4_ask_4 := dk_seg dksX4_ask_3 22 rfl rfl
theorem dksX4_ask_5 : cX4_ask.data.toList.drop 118 = dktX4_ask_5 := dk_seg dksX4_ask_4 24 rfl rfl
theorem dksX4_ask_6 : cX4_ask.data.toList.drop 142 = dktX4_ask_6 := dk_seg dksX4_ask_5 24 rfl rfl
theorem dksX4_ask_7 : cX4_ask.data.toList.drop 165 = dktX4_ask_7 := dk_seg dksX4_ask_6 23 rfl rfl
theorem dksX4_ask_8 : cX4_ask.data.toList.drop 189 = dktX4_ask_8 := dk_seg dksX4_ask_7 24 rfl rfl
theorem dksX4_ask_9 : cX4_ask.data.toList.drop 212 = dktX4_ask_9 := dk_seg dksX4_ask_8 23 rfl rfl
theorem dX4_ask_0 : decode cX4_ask 0 = .ok (.aload_n 0, 1) := dk_42 (dk_at dksX4_ask_0 0 rfl rfl)
theorem dX4_ask_1 : decode cX4_ask 1 = .ok (.getfield 3, 3) := dk_180 0 3 (dk_at dksX4_ask_0 1 rfl rfl)
theorem dX4_ask_4 : decode cX4_ask 4 = .ok (.getfield 63, 3) := dk_180 0 63 (dk_at dksX4_ask_0 4 rfl rfl)
theorem dX4_ask_7 : decode cX4_ask 7 = .ok (.getfield 67, 3) := dk_180 0 67 (dk_at dksX4_ask_0 7 rfl rfl)
theorem dX4_ask_10 : decode cX4_ask 10 = .ok (.iconst 0, 1) := dk_3 (dk_at dksX4_ask_0 10 rfl rfl)
theorem dX4_ask_11 : decode cX4_ask 11 = .ok (.iload_n 1, 1) := dk_27 (dk_at dksX4_ask_0 11 rfl rfl)
theorem dX4_ask_12 : decode cX4_ask 12 = .ok (.i2l, 1) := dk_133 (dk_at dksX4_ask_0 12 rfl rfl)
theorem dX4_ask_13 : decode cX4_ask 13 = .ok (.lastore, 1) := dk_80 (dk_at dksX4_ask_0 13 rfl rfl)
theorem dX4_ask_14 : decode cX4_ask 14 = .ok (.aload_n 0, 1) := dk_42 (dk_at dksX4_ask_0 14 rfl rfl)
theorem dX4_ask_15 : decode cX4_ask 15 = .ok (.getfield 3, 3) := dk_180 0 3 (dk_at dksX4_ask_0 15 rfl rfl)
theorem dX4_ask_18 : decode cX4_ask 18 = .ok (.getfield 63, 3) := dk_180 0 63 (dk_at dksX4_ask_0 18 rfl rfl)
theorem dX4_ask_21 : decode cX4_ask 21 = .ok (.getfield 67, 3) := dk_180 0 67 (dk_at dksX4_ask_0 21 rfl rfl)
theorem dX4_ask_24 : decode cX4_ask 24 = .ok (.iconst 1, 1) := dk_4 (dk_at dksX4_ask_1 0 rfl rfl)
theorem dX4_ask_25 : decode cX4_ask 25 = .ok (.aload_n 2, 1) := dk_44 (dk_at dksX4_ask_1 1 rfl rfl)
theorem dX4_ask_26 : decode cX4_ask 26 = .ok (.getfield 73, 3) := dk_180 0 73 (dk_at dksX4_ask_1 2 rfl rfl)
theorem dX4_ask_29 : decode cX4_ask 29 = .ok (.i2l, 1) := dk_133 (dk_at dksX4_ask_1 5 rfl rfl)
theorem dX4_ask_30 : decode cX4_ask 30 = .ok (.lastore, 1) := dk_80 (dk_at dksX4_ask_1 6 rfl rfl)
theorem dX4_ask_31 : decode cX4_ask 31 = .ok (.aload_n 0, 1) := dk_42 (dk_at dksX4_ask_1 7 rfl rfl)
theorem dX4_ask_32 : decode cX4_ask 32 = .ok (.getfield 3, 3) := dk_180 0 3 (dk_at dksX4_ask_1 8 rfl rfl)
theorem dX4_ask_35 : decode cX4_ask 35 = .ok (.getfield 63, 3) := dk_180 0 63 (dk_at dksX4_ask_1 11 rfl rfl)
theorem dX4_ask_38 : decode cX4_ask 38 = .ok (.getfield 67, 3) := dk_180 0 67 (dk_at dksX4_ask_1 14 rfl rfl)
theorem dX4_ask_41 : decode cX4_ask 41 = .ok (.iconst 2, 1) := dk_5 (dk_at dksX4_ask_1 17 rfl rfl)
theorem dX4_ask_42 : decode cX4_ask 42 = .ok (.aload_n 2, 1) := dk_44 (dk_at dksX4_ask_1 18 rfl rfl)
theorem dX4_ask_43 : decode cX4_ask 43 = .ok (.getfield 47, 3) := dk_180 0 47 (dk_at dksX4_ask_1 19 rfl rfl)
theorem dX4_ask_46 : decode cX4_ask 46 = .ok (.i2l, 1) := dk_133 (dk_at dksX4_ask_1 22 rfl rfl)
theorem dX4_ask_47 : decode cX4_ask 47 = .ok (.lastore, 1) := dk_80 (dk_at dksX4_ask_1 23 rfl rfl)
theorem dX4_ask_48 : decode cX4_ask 48 = .ok (.aload_n 0, 1) := dk_42 (dk_at dksX4_ask_2 0 rfl rfl)
theorem dX4_ask_49 : decode cX4_ask 49 = .ok (.getfield 3, 3) := dk_180 0 3 (dk_at dksX4_ask_2 1 rfl rfl)
theorem dX4_ask_52 : decode cX4_ask 52 = .ok (.getfield 63, 3) := dk_180 0 63 (dk_at dksX4_ask_2 4 rfl rfl)
theorem dX4_ask_55 : decode cX4_ask 55 = .ok (.getfield 67, 3) := dk_180 0 67 (dk_at dksX4_ask_2 7 rfl rfl)
theorem dX4_ask_58 : decode cX4_ask 58 = .ok (.iconst 3, 1) := dk_6 (dk_at dksX4_ask_2 10 rfl rfl)
theorem dX4_ask_59 : decode cX4_ask 59 = .ok (.aload_n 2, 1) := dk_44 (dk_at dksX4_ask_2 11 rfl rfl)
theorem dX4_ask_60 : decode cX4_ask 60 = .ok (.getfield 76, 3) := dk_180 0 76 (dk_at dksX4_ask_2 12 rfl rfl)
theorem dX4_ask_63 : decode cX4_ask 63 = .ok (.i2l, 1) := dk_133 (dk_at dksX4_ask_2 15 rfl rfl)
theorem dX4_ask_64 : decode cX4_ask 64 = .ok (.lastore, 1) := dk_80 (dk_at dksX4_ask_2 16 rfl rfl)
theorem dX4_ask_65 : decode cX4_ask 65 = .ok (.aload_n 0, 1) := dk_42 (dk_at dksX4_ask_2 17 rfl rfl)
theorem dX4_ask_66 : decode cX4_ask 66 = .ok (.getfield 3, 3) := dk_180 0 3 (dk_at dksX4_ask_2 18 rfl rfl)
theorem dX4_ask_69 : decode cX4_ask 69 = .ok (.getfield 63, 3) := dk_180 0 63 (dk_at dksX4_ask_2 21 rfl rfl)
theorem dX4_ask_72 : decode cX4_ask 72 = .ok (.getfield 67, 3) := dk_180 0 67 (dk_at dksX4_ask_3 0 rfl rfl)
theorem dX4_ask_75 : decode cX4_ask 75 = .ok (.iconst 4, 1) := dk_7 (dk_at dksX4_ask_3 3 rfl rfl)
theorem dX4_ask_76 : decode cX4_ask 76 = .ok (.aload_n 2, 1) := dk_44 (dk_at dksX4_ask_3 4 rfl rfl)
theorem dX4_ask_77 : decode cX4_ask 77 = .ok (.getfield 79, 3) := dk_180 0 79 (dk_at dksX4_ask_3 5 rfl rfl)
theorem dX4_ask_80 : decode cX4_ask 80 = .ok (.i2l, 1) := dk_133 (dk_at dksX4_ask_3 8 rfl rfl)
theorem dX4_ask_81 : decode cX4_ask 81 = .ok (.lastore, 1) := dk_80 (dk_at dksX4_ask_3 9 rfl rfl)
theorem dX4_ask_82 : decode cX4_ask 82 = .ok (.aload_n 0, 1) := dk_42 (dk_at dksX4_ask_3 10 rfl rfl)
theorem dX4_ask_83 : decode cX4_ask 83 = .ok (.getfield 3, 3) := dk_180 0 3 (dk_at dksX4_ask_3 11 rfl rfl)
theorem dX4_ask_86 : decode cX4_ask 86 = .ok (.getfield 63, 3) := dk_180 0 63 (dk_at dksX4_ask_3 14 rfl rfl)
theorem dX4_ask_89 : decode cX4_ask 89 = .ok (.getfield 67, 3) := dk_180 0 67 (dk_at dksX4_ask_3 17 rfl rfl)
theorem dX4_ask_92 : decode cX4_ask 92 = .ok (.iconst 5, 1) := dk_8 (dk_at dksX4_ask_3 20 rfl rfl)
theorem dX4_ask_93 : decode cX4_ask 93 = .ok (.aload_n 2, 1) := dk_44 (dk_at dksX4_ask_3 21 rfl rfl)
theorem dX4_ask_94 : decode cX4_ask 94 = .ok (.getfield 82, 3) := dk_180 0 82 (dk_at dksX4_ask_4 0 rfl rfl)
theorem dX4_ask_97 : decode cX4_ask 97 = .ok (.iconst 0, 1) := dk_3 (dk_at dksX4_ask_4 3 rfl rfl)
theorem dX4_ask_98 : decode cX4_ask 98 = .ok (.iaload, 1) := dk_46 (dk_at dksX4_ask_4 4 rfl rfl)
theorem dX4_ask_99 : decode cX4_ask 99 = .ok (.i2l, 1) := dk_133 (dk_at dksX4_ask_4 5 rfl rfl)
theorem dX4_ask_100 : decode cX4_ask 100 = .ok (.lastore, 1) := dk_80 (dk_at dksX4_ask_4 6 rfl rfl)
theorem dX4_ask_101 : decode cX4_ask 101 = .ok (.aload_n 0, 1) := dk_42 (dk_at dksX4_ask_4 7 rfl rfl)
theorem dX4_ask_102 : decode cX4_ask 102 = .ok (.getfield 3, 3) := dk_180 0 3 (dk_at dksX4_ask_4 8 rfl rfl)
theorem dX4_ask_105 : decode cX4_ask 105 = .ok (.getfield 63, 3) := dk_180 0 63 (dk_at dksX4_ask_4 11 rfl rfl)
theorem dX4_ask_108 : decode cX4_ask 108 = .ok (.getfield 67, 3) := dk_180 0 67 (dk_at dksX4_ask_4 14 rfl rfl)
theorem dX4_ask_111 : decode cX4_ask 111 = .ok (.bipush 6, 2) := dk_16 6 (dk_at dksX4_ask_4 17 rfl rfl)
theorem dX4_ask_113 : decode cX4_ask 113 = .ok (.aload_n 2, 1) := dk_44 (dk_at dksX4_ask_4 19 rfl rfl)
theorem dX4_ask_114 : decode cX4_ask 114 = .ok (.getfield 82, 3) := dk_180 0 82 (dk_at dksX4_ask_4 20 rfl rfl)
theorem dX4_ask_117 : decode cX4_ask 117 = .ok (.iconst 1, 1) := dk_4 (dk_at dksX4_ask_4 23 rfl rfl)
theorem dX4_ask_118 : decode cX4_ask 118 = .ok (.iaload, 1) := dk_46 (dk_at dksX4_ask_5 0 rfl rfl)
theorem dX4_ask_119 : decode cX4_ask 119 = .ok (.i2l, 1) := dk_133 (dk_at dksX4_ask_5 1 rfl rfl)
theorem dX4_ask_120 : decode cX4_ask 120 = .ok (.lastore, 1) := dk_80 (dk_at dksX4_ask_5 2 rfl rfl)
theorem dX4_ask_121 : decode cX4_ask 121 = .ok (.aload_n 0, 1) := dk_42 (dk_at dksX4_ask_5 3 rfl rfl)
theorem dX4_ask_122 : decode cX4_ask 122 = .ok (.getfield 3, 3) := dk_180 0 3 (dk_at dksX4_ask_5 4 rfl rfl)
theorem dX4_ask_125 : decode cX4_ask 125 = .ok (.getfield 63, 3) := dk_180 0 63 (dk_at dksX4_ask_5 7 rfl rfl)
theorem dX4_ask_128 : decode cX4_ask 128 = .ok (.getfield 67, 3) := dk_180 0 67 (dk_at dksX4_ask_5 10 rfl rfl)
theorem dX4_ask_131 : decode cX4_ask 131 = .ok (.bipush 7, 2) := dk_16 7 (dk_at dksX4_ask_5 13 rfl rfl)
theorem dX4_ask_133 : decode cX4_ask 133 = .ok (.aload_n 2, 1) := dk_44 (dk_at dksX4_ask_5 15 rfl rfl)
theorem dX4_ask_134 : decode cX4_ask 134 = .ok (.getfield 82, 3) := dk_180 0 82 (dk_at dksX4_ask_5 16 rfl rfl)
theorem dX4_ask_137 : decode cX4_ask 137 = .ok (.iconst 2, 1) := dk_5 (dk_at dksX4_ask_5 19 rfl rfl)
theorem dX4_ask_138 : decode cX4_ask 138 = .ok (.iaload, 1) := dk_46 (dk_at dksX4_ask_5 20 rfl rfl)
theorem dX4_ask_139 : decode cX4_ask 139 = .ok (.i2l, 1) := dk_133 (dk_at dksX4_ask_5 21 rfl rfl)
theorem dX4_ask_140 : decode cX4_ask 140 = .ok (.lastore, 1) := dk_80 (dk_at dksX4_ask_5 22 rfl rfl)
theorem dX4_ask_141 : decode cX4_ask 141 = .ok (.aload_n 0, 1) := dk_42 (dk_at dksX4_ask_5 23 rfl rfl)
theorem dX4_ask_142 : decode cX4_ask 142 = .ok (.getfield 3, 3) := dk_180 0 3 (dk_at dksX4_ask_6 0 rfl rfl)
theorem dX4_ask_145 : decode cX4_ask 145 = .ok (.getfield 33, 3) := dk_180 0 33 (dk_at dksX4_ask_6 3 rfl rfl)
theorem dX4_ask_148 : decode cX4_ask 148 = .ok (.aload_n 0, 1) := dk_42 (dk_at dksX4_ask_6 6 rfl rfl)
theorem dX4_ask_149 : decode cX4_ask 149 = .ok (.getfield 3, 3) := dk_180 0 3 (dk_at dksX4_ask_6 7 rfl rfl)
theorem dX4_ask_152 : decode cX4_ask 152 = .ok (.getfield 85, 3) := dk_180 0 85 (dk_at dksX4_ask_6 10 rfl rfl)
theorem dX4_ask_155 : decode cX4_ask 155 = .ok (.invokevirtual 89, 3) := dk_182 0 89 (dk_at dksX4_ask_6 13 rfl rfl)
theorem dX4_ask_158 : decode cX4_ask 158 = .ok (.astore_n 3, 1) := dk_78 (dk_at dksX4_ask_6 16 rfl rfl)
theorem dX4_ask_159 : decode cX4_ask 159 = .ok (.aload_n 0, 1) := dk_42 (dk_at dksX4_ask_6 17 rfl rfl)
theorem dX4_ask_160 : decode cX4_ask 160 = .ok (.getfield 15, 3) := dk_180 0 15 (dk_at dksX4_ask_6 18 rfl rfl)
theorem dX4_ask_163 : decode cX4_ask 163 = .ok (.iload_n 1, 1) := dk_27 (dk_at dksX4_ask_6 21 rfl rfl)
theorem dX4_ask_164 : decode cX4_ask 164 = .ok (.lconst 0, 1) := dk_9 (dk_at dksX4_ask_6 22 rfl rfl)
theorem dX4_ask_165 : decode cX4_ask 165 = .ok (.ldc2_w 93, 3) := dk_20 0 93 (dk_at dksX4_ask_7 0 rfl rfl)
theorem dX4_ask_168 : decode cX4_ask 168 = .ok (.aload_n 3, 1) := dk_45 (dk_at dksX4_ask_7 3 rfl rfl)
theorem dX4_ask_169 : decode cX4_ask 169 = .ok (.iconst 0, 1) := dk_3 (dk_at dksX4_ask_7 4 rfl rfl)
theorem dX4_ask_170 : decode cX4_ask 170 = .ok (.aload_n 0, 1) := dk_42 (dk_at dksX4_ask_7 5 rfl rfl)
theorem dX4_ask_171 : decode cX4_ask 171 = .ok (.getfield 3, 3) := dk_180 0 3 (dk_at dksX4_ask_7 6 rfl rfl)
theorem dX4_ask_174 : decode cX4_ask 174 = .ok (.getfield 63, 3) := dk_180 0 63 (dk_at dksX4_ask_7 9 rfl rfl)
theorem dX4_ask_177 : decode cX4_ask 177 = .ok (.aload_n 0, 1) := dk_42 (dk_at dksX4_ask_7 12 rfl rfl)
theorem dX4_ask_178 : decode cX4_ask 178 = .ok (.getfield 3, 3) := dk_180 0 3 (dk_at dksX4_ask_7 13 rfl rfl)
theorem dX4_ask_181 : decode cX4_ask 181 = .ok (.getfield 33, 3) := dk_180 0 33 (dk_at dksX4_ask_7 16 rfl rfl)
theorem dX4_ask_184 : decode cX4_ask 184 = .ok (.getfield 52, 3) := dk_180 0 52 (dk_at dksX4_ask_7 19 rfl rfl)
theorem dX4_ask_187 : decode cX4_ask 187 = .ok (.iconst 0, 1) := dk_3 (dk_at dksX4_ask_7 22 rfl rfl)
theorem dX4_ask_188 : decode cX4_ask 188 = .ok (.iaload, 1) := dk_46 (dk_at dksX4_ask_7 23 rfl rfl)
theorem dX4_ask_189 : decode cX4_ask 189 = .ok (.i2l, 1) := dk_133 (dk_at dksX4_ask_8 0 rfl rfl)
theorem dX4_ask_190 : decode cX4_ask 190 = .ok (.invokevirtual 97, 3) := dk_182 0 97 (dk_at dksX4_ask_8 1 rfl rfl)
theorem dX4_ask_193 : decode cX4_ask 193 = .ok (.invokestatic 103, 3) := dk_184 0 103 (dk_at dksX4_ask_8 4 rfl rfl)
theorem dX4_ask_196 : decode cX4_ask 196 = .ok (.invokestatic 109, 3) := dk_184 0 109 (dk_at dksX4_ask_8 7 rfl rfl)
theorem dX4_ask_199 : decode cX4_ask 199 = .ok (.l2i, 1) := dk_136 (dk_at dksX4_ask_8 10 rfl rfl)
theorem dX4_ask_200 : decode cX4_ask 200 = .ok (.iastore, 1) := dk_79 (dk_at dksX4_ask_8 11 rfl rfl)
theorem dX4_ask_201 : decode cX4_ask 201 = .ok (.aload_n 0, 1) := dk_42 (dk_at dksX4_ask_8 12 rfl rfl)
theorem dX4_ask_202 : decode cX4_ask 202 = .ok (.dup, 1) := dk_89 (dk_at dksX4_ask_8 13 rfl rfl)
theorem dX4_ask_203 : decode cX4_ask 203 = .ok (.getfield 29, 3) := dk_180 0 29 (dk_at dksX4_ask_8 14 rfl rfl)
theorem dX4_ask_206 : decode cX4_ask 206 = .ok (.aload_n 3, 1) := dk_45 (dk_at dksX4_ask_8 17 rfl rfl)
theorem dX4_ask_207 : decode cX4_ask 207 = .ok (.iconst 1, 1) := dk_4 (dk_at dksX4_ask_8 18 rfl rfl)
theorem dX4_ask_208 : decode cX4_ask 208 = .ok (.aload_n 0, 1) := dk_42 (dk_at dksX4_ask_8 19 rfl rfl)
theorem dX4_ask_209 : decode cX4_ask 209 = .ok (.getfield 3, 3) := dk_180 0 3 (dk_at dksX4_ask_8 20 rfl rfl)
theorem dX4_ask_212 : decode cX4_ask 212 = .ok (.getfield 63, 3) := dk_180 0 63 (dk_at dksX4_ask_9 0 rfl rfl)
theorem dX4_ask_215 : decode cX4_ask 215 = .ok (.invokevirtual 112, 3) := dk_182 0 112 (dk_at dksX4_ask_9 3 rfl rfl)
theorem dX4_ask_218 : decode cX4_ask 218 = .ok (.ifCond .eq 9, 3) := dk_153 0 9 (dk_at dksX4_ask_9 6 rfl rfl)
theorem dX4_ask_221 : decode cX4_ask 221 = .ok (.iconst 1, 1) := dk_4 (dk_at dksX4_ask_9 9 rfl rfl)
theorem dX4_ask_222 : decode cX4_ask 222 = .ok (.iload_n 1, 1) := dk_27 (dk_at dksX4_ask_9 10 rfl rfl)
theorem dX4_ask_223 : decode cX4_ask 223 = .ok (.ishl, 1) := dk_120 (dk_at dksX4_ask_9 11 rfl rfl)
theorem dX4_ask_224 : decode cX4_ask 224 = .ok (.goto 4, 3) := dk_167 0 4 (dk_at dksX4_ask_9 12 rfl rfl)
theorem dX4_ask_227 : decode cX4_ask 227 = .ok (.iconst 0, 1) := dk_3 (dk_at dksX4_ask_9 15 rfl rfl)
theorem dX4_ask_228 : decode cX4_ask 228 = .ok (.ior, 1) := dk_128 (dk_at dksX4_ask_9 16 rfl rfl)
theorem dX4_ask_229 : decode cX4_ask 229 = .ok (.putfield 29, 3) := dk_181 0 29 (dk_at dksX4_ask_9 17 rfl rfl)
theorem dX4_ask_232 : decode cX4_ask 232 = .ok (.return_, 1) := dk_177 (dk_at dksX4_ask_9 20 rfl rfl)
abbrev cX4_touches : ByteArray := prog_16_method_4_code
def yX4_touches : MethodName := ⟨RX4, "touches", "(II)I"⟩
def dkwX4_touches_0 : List UInt8 := [42, 180, 0, 22, 28, 46, 27, 126, 184, 0, 116, 42, 180, 0, 19, 28, 46, 96, 172]
abbrev dktX4_touches_0 : List UInt8 := dkwX4_touches_0 ++ []
theorem dksX4_touches_0 : cX4_touches.data.toList.drop 0 = dktX4_touches_0 := by decide +kernel
theorem dX4_touches_0 : decode cX4_touches 0 = .ok (.aload_n 0, 1) := dk_42 (dk_at dksX4_touches_0 0 rfl rfl)
theorem dX4_touches_1 : decode cX4_touches 1 = .ok (.getfield 22, 3) := dk_180 0 22 (dk_at dksX4_touches_0 1 rfl rfl)
theorem dX4_touches_4 : decode cX4_touches 4 = .ok (.iload_n 2, 1) := dk_28 (dk_at dksX4_touches_0 4 rfl rfl)
theorem dX4_touches_5 : decode cX4_touches 5 = .ok (.iaload, 1) := dk_46 (dk_at dksX4_touches_0 5 rfl rfl)
theorem dX4_touches_6 : decode cX4_touches 6 = .ok (.iload_n 1, 1) := dk_27 (dk_at dksX4_touches_0 6 rfl rfl)
theorem dX4_touches_7 : decode cX4_touches 7 = .ok (.iand, 1) := dk_126 (dk_at dksX4_touches_0 7 rfl rfl)
theorem dX4_touches_8 : decode cX4_touches 8 = .ok (.invokestatic 116, 3) := dk_184 0 116 (dk_at dksX4_touches_0 8 rfl rfl)
theorem dX4_touches_11 : decode cX4_touches 11 = .ok (.aload_n 0, 1) := dk_42 (dk_at dksX4_touches_0 11 rfl rfl)
theorem dX4_touches_12 : decode cX4_touches 12 = .ok (.getfield 19, 3) := dk_180 0 19 (dk_at dksX4_touches_0 12 rfl rfl)
theorem dX4_touches_15 : decode cX4_touches 15 = .ok (.iload_n 2, 1) := dk_28 (dk_at dksX4_touches_0 15 rfl rfl)
theorem dX4_touches_16 : decode cX4_touches 16 = .ok (.iaload, 1) := dk_46 (dk_at dksX4_touches_0 16 rfl rfl)
theorem dX4_touches_17 : decode cX4_touches 17 = .ok (.iadd, 1) := dk_96 (dk_at dksX4_touches_0 17 rfl rfl)
theorem dX4_touches_18 : decode cX4_touches 18 = .ok (.ireturn, 1) := dk_172 (dk_at dksX4_touches_0 18 rfl rfl)
abbrev cX4_weak : ByteArray := prog_16_method_6_code
def yX4_weak : MethodName := ⟨RX4, "weak", "(I)I"⟩
def dkwX4_weak_1 : List UInt8 := [182, 0, 126, 154, 0, 9, 4, 29, 120, 167, 0, 4, 3, 128, 61, 132, 3, 1, 167, 255, 220, 28, 172]
abbrev dktX4_weak_1 : List UInt8 := dkwX4_weak_1 ++ []
def dkwX4_weak_0 : List UInt8 := [3, 61, 3, 62, 29, 16, 22, 162, 0, 36, 28, 27, 29, 184, 0, 120, 153, 0, 18, 42, 27, 29]
abbrev dktX4_weak_0 : List UInt8 := dkwX4_weak_0 ++ dktX4_weak_1
theorem dksX4_weak_0 : cX4_weak.data.toList.drop 0 = dktX4_weak_0 := by decide +kernel
theorem dksX4_weak_1 : cX4_weak.data.toList.drop 22 = dktX4_weak_1 := dk_seg dksX4_weak_0 22 rfl rfl
theorem dX4_weak_0 : decode cX4_weak 0 = .ok (.iconst 0, 1) := dk_3 (dk_at dksX4_weak_0 0 rfl rfl)
theorem dX4_weak_1 : decode cX4_weak 1 = .ok (.istore_n 2, 1) := dk_61 (dk_at dksX4_weak_0 1 rfl rfl)
theorem dX4_weak_2 : decode cX4_weak 2 = .ok (.iconst 0, 1) := dk_3 (dk_at dksX4_weak_0 2 rfl rfl)
theorem dX4_weak_3 : decode cX4_weak 3 = .ok (.istore_n 3, 1) := dk_62 (dk_at dksX4_weak_0 3 rfl rfl)
theorem dX4_weak_4 : decode cX4_weak 4 = .ok (.iload_n 3, 1) := dk_29 (dk_at dksX4_weak_0 4 rfl rfl)
theorem dX4_weak_5 : decode cX4_weak 5 = .ok (.bipush 22, 2) := dk_16 22 (dk_at dksX4_weak_0 5 rfl rfl)
theorem dX4_weak_7 : decode cX4_weak 7 = .ok (.if_icmp .ge 36, 3) := dk_162 0 36 (dk_at dksX4_weak_0 7 rfl rfl)
theorem dX4_weak_10 : decode cX4_weak 10 = .ok (.iload_n 2, 1) := dk_28 (dk_at dksX4_weak_0 10 rfl rfl)
theorem dX4_weak_11 : decode cX4_weak 11 = .ok (.iload_n 1, 1) := dk_27 (dk_at dksX4_weak_0 11 rfl rfl)
theorem dX4_weak_12 : decode cX4_weak 12 = .ok (.iload_n 3, 1) := dk_29 (dk_at dksX4_weak_0 12 rfl rfl)
theorem dX4_weak_13 : decode cX4_weak 13 = .ok (.invokestatic 120, 3) := dk_184 0 120 (dk_at dksX4_weak_0 13 rfl rfl)
theorem dX4_weak_16 : decode cX4_weak 16 = .ok (.ifCond .eq 18, 3) := dk_153 0 18 (dk_at dksX4_weak_0 16 rfl rfl)
theorem dX4_weak_19 : decode cX4_weak 19 = .ok (.aload_n 0, 1) := dk_42 (dk_at dksX4_weak_0 19 rfl rfl)
theorem dX4_weak_20 : decode cX4_weak 20 = .ok (.iload_n 1, 1) := dk_27 (dk_at dksX4_weak_0 20 rfl rfl)
theorem dX4_weak_21 : decode cX4_weak 21 = .ok (.iload_n 3, 1) := dk_29 (dk_at dksX4_weak_0 21 rfl rfl)
theorem dX4_weak_22 : decode cX4_weak 22 = .ok (.invokevirtual 126, 3) := dk_182 0 126 (dk_at dksX4_weak_1 0 rfl rfl)
theorem dX4_weak_25 : decode cX4_weak 25 = .ok (.ifCond .ne 9, 3) := dk_154 0 9 (dk_at dksX4_weak_1 3 rfl rfl)
theorem dX4_weak_28 : decode cX4_weak 28 = .ok (.iconst 1, 1) := dk_4 (dk_at dksX4_weak_1 6 rfl rfl)
theorem dX4_weak_29 : decode cX4_weak 29 = .ok (.iload_n 3, 1) := dk_29 (dk_at dksX4_weak_1 7 rfl rfl)
theorem dX4_weak_30 : decode cX4_weak 30 = .ok (.ishl, 1) := dk_120 (dk_at dksX4_weak_1 8 rfl rfl)
theorem dX4_weak_31 : decode cX4_weak 31 = .ok (.goto 4, 3) := dk_167 0 4 (dk_at dksX4_weak_1 9 rfl rfl)
theorem dX4_weak_34 : decode cX4_weak 34 = .ok (.iconst 0, 1) := dk_3 (dk_at dksX4_weak_1 12 rfl rfl)
theorem dX4_weak_35 : decode cX4_weak 35 = .ok (.ior, 1) := dk_128 (dk_at dksX4_weak_1 13 rfl rfl)
theorem dX4_weak_36 : decode cX4_weak 36 = .ok (.istore_n 2, 1) := dk_61 (dk_at dksX4_weak_1 14 rfl rfl)
theorem dX4_weak_37 : decode cX4_weak 37 = .ok (.iinc 3 1, 3) := dk_132 3 1 (dk_at dksX4_weak_1 15 rfl rfl)
theorem dX4_weak_40 : decode cX4_weak 40 = .ok (.goto (-36), 3) := dk_167 255 220 (dk_at dksX4_weak_1 18 rfl rfl)
theorem dX4_weak_43 : decode cX4_weak 43 = .ok (.iload_n 2, 1) := dk_28 (dk_at dksX4_weak_1 21 rfl rfl)
theorem dX4_weak_44 : decode cX4_weak 44 = .ok (.ireturn, 1) := dk_172 (dk_at dksX4_weak_1 22 rfl rfl)
abbrev cX4_stands : ByteArray := prog_16_method_5_code
def yX4_stands : MethodName := ⟨RX4, "stands", "(II)Z"⟩
def dkwX4_stands_1 : List UInt8 := [161, 0, 7, 4, 167, 0, 4, 3, 172]
abbrev dktX4_stands_1 : List UInt8 := dkwX4_stands_1 ++ []
def dkwX4_stands_0 : List UInt8 := [42, 180, 0, 29, 28, 184, 0, 120, 154, 0, 18, 42, 27, 28, 182, 0, 123, 42, 180, 0, 15, 28, 46]
abbrev dktX4_stands_0 : List UInt8 := dkwX4_stands_0 ++ dktX4_stands_1
theorem dksX4_stands_0 : cX4_stands.data.toList.drop 0 = dktX4_stands_0 := by decide +kernel
theorem dksX4_stands_1 : cX4_stands.data.toList.drop 23 = dktX4_stands_1 := dk_seg dksX4_stands_0 23 rfl rfl
theorem dX4_stands_0 : decode cX4_stands 0 = .ok (.aload_n 0, 1) := dk_42 (dk_at dksX4_stands_0 0 rfl rfl)
theorem dX4_stands_1 : decode cX4_stands 1 = .ok (.getfield 29, 3) := dk_180 0 29 (dk_at dksX4_stands_0 1 rfl rfl)
theorem dX4_stands_4 : decode cX4_stands 4 = .ok (.iload_n 2, 1) := dk_28 (dk_at dksX4_stands_0 4 rfl rfl)
theorem dX4_stands_5 : decode cX4_stands 5 = .ok (.invokestatic 120, 3) := dk_184 0 120 (dk_at dksX4_stands_0 5 rfl rfl)
theorem dX4_stands_8 : decode cX4_stands 8 = .ok (.ifCond .ne 18, 3) := dk_154 0 18 (dk_at dksX4_stands_0 8 rfl rfl)
theorem dX4_stands_11 : decode cX4_stands 11 = .ok (.aload_n 0, 1) := dk_42 (dk_at dksX4_stands_0 11 rfl rfl)
theorem dX4_stands_12 : decode cX4_stands 12 = .ok (.iload_n 1, 1) := dk_27 (dk_at dksX4_stands_0 12 rfl rfl)
theorem dX4_stands_13 : decode cX4_stands 13 = .ok (.iload_n 2, 1) := dk_28 (dk_at dksX4_stands_0 13 rfl rfl)
theorem dX4_stands_14 : decode cX4_stands 14 = .ok (.invokevirtual 123, 3) := dk_182 0 123 (dk_at dksX4_stands_0 14 rfl rfl)
theorem dX4_stands_17 : decode cX4_stands 17 = .ok (.aload_n 0, 1) := dk_42 (dk_at dksX4_stands_0 17 rfl rfl)
theorem dX4_stands_18 : decode cX4_stands 18 = .ok (.getfield 15, 3) := dk_180 0 15 (dk_at dksX4_stands_0 18 rfl rfl)
theorem dX4_stands_21 : decode cX4_stands 21 = .ok (.iload_n 2, 1) := dk_28 (dk_at dksX4_stands_0 21 rfl rfl)
theorem dX4_stands_22 : decode cX4_stands 22 = .ok (.iaload, 1) := dk_46 (dk_at dksX4_stands_0 22 rfl rfl)
theorem dX4_stands_23 : decode cX4_stands 23 = .ok (.if_icmp .lt 7, 3) := dk_161 0 7 (dk_at dksX4_stands_1 0 rfl rfl)
theorem dX4_stands_26 : decode cX4_stands 26 = .ok (.iconst 1, 1) := dk_4 (dk_at dksX4_stands_1 3 rfl rfl)
theorem dX4_stands_27 : decode cX4_stands 27 = .ok (.goto 4, 3) := dk_167 0 4 (dk_at dksX4_stands_1 4 rfl rfl)
theorem dX4_stands_30 : decode cX4_stands 30 = .ok (.iconst 0, 1) := dk_3 (dk_at dksX4_stands_1 7 rfl rfl)
theorem dX4_stands_31 : decode cX4_stands 31 = .ok (.ireturn, 1) := dk_172 (dk_at dksX4_stands_1 8 rfl rfl)
abbrev cX4_fall : ByteArray := prog_16_method_8_code
def yX4_fall : MethodName := ⟨RX4, "fall", "(I)I"⟩
def dkwX4_fall_1 : List UInt8 := [167, 255, 240, 28, 172]
abbrev dktX4_fall_1 : List UInt8 := dkwX4_fall_1 ++ []
def dkwX4_fall_0 : List UInt8 := [27, 61, 42, 28, 182, 0, 129, 62, 29, 153, 0, 18, 28, 29, 2, 130, 126, 61, 42, 28, 182, 0, 129, 62]
abbrev dktX4_fall_0 : List UInt8 := dkwX4_fall_0 ++ dktX4_fall_1
theorem dksX4_fall_0 : cX4_fall.data.toList.drop 0 = dktX4_fall_0 := by decide +kernel
theorem dksX4_fall_1 : cX4_fall.data.toList.drop 24 = dktX4_fall_1 := dk_seg dksX4_fall_0 24 rfl rfl
theorem dX4_fall_0 : decode cX4_fall 0 = .ok (.iload_n 1, 1) := dk_27 (dk_at dksX4_fall_0 0 rfl rfl)
theorem dX4_fall_1 : decode cX4_fall 1 = .ok (.istore_n 2, 1) := dk_61 (dk_at dksX4_fall_0 1 rfl rfl)
theorem dX4_fall_2 : decode cX4_fall 2 = .ok (.aload_n 0, 1) := dk_42 (dk_at dksX4_fall_0 2 rfl rfl)
theorem dX4_fall_3 : decode cX4_fall 3 = .ok (.iload_n 2, 1) := dk_28 (dk_at dksX4_fall_0 3 rfl rfl)
theorem dX4_fall_4 : decode cX4_fall 4 = .ok (.invokevirtual 129, 3) := dk_182 0 129 (dk_at dksX4_fall_0 4 rfl rfl)
theorem dX4_fall_7 : decode cX4_fall 7 = .ok (.istore_n 3, 1) := dk_62 (dk_at dksX4_fall_0 7 rfl rfl)
theorem dX4_fall_8 : decode cX4_fall 8 = .ok (.iload_n 3, 1) := dk_29 (dk_at dksX4_fall_0 8 rfl rfl)
theorem dX4_fall_9 : decode cX4_fall 9 = .ok (.ifCond .eq 18, 3) := dk_153 0 18 (dk_at dksX4_fall_0 9 rfl rfl)
theorem dX4_fall_12 : decode cX4_fall 12 = .ok (.iload_n 2, 1) := dk_28 (dk_at dksX4_fall_0 12 rfl rfl)
theorem dX4_fall_13 : decode cX4_fall 13 = .ok (.iload_n 3, 1) := dk_29 (dk_at dksX4_fall_0 13 rfl rfl)
theorem dX4_fall_14 : decode cX4_fall 14 = .ok (.iconst (-1), 1) := dk_2 (dk_at dksX4_fall_0 14 rfl rfl)
theorem dX4_fall_15 : decode cX4_fall 15 = .ok (.ixor, 1) := dk_130 (dk_at dksX4_fall_0 15 rfl rfl)
theorem dX4_fall_16 : decode cX4_fall 16 = .ok (.iand, 1) := dk_126 (dk_at dksX4_fall_0 16 rfl rfl)
theorem dX4_fall_17 : decode cX4_fall 17 = .ok (.istore_n 2, 1) := dk_61 (dk_at dksX4_fall_0 17 rfl rfl)
theorem dX4_fall_18 : decode cX4_fall 18 = .ok (.aload_n 0, 1) := dk_42 (dk_at dksX4_fall_0 18 rfl rfl)
theorem dX4_fall_19 : decode cX4_fall 19 = .ok (.iload_n 2, 1) := dk_28 (dk_at dksX4_fall_0 19 rfl rfl)
theorem dX4_fall_20 : decode cX4_fall 20 = .ok (.invokevirtual 129, 3) := dk_182 0 129 (dk_at dksX4_fall_0 20 rfl rfl)
theorem dX4_fall_23 : decode cX4_fall 23 = .ok (.istore_n 3, 1) := dk_62 (dk_at dksX4_fall_0 23 rfl rfl)
theorem dX4_fall_24 : decode cX4_fall 24 = .ok (.goto (-16), 3) := dk_167 255 240 (dk_at dksX4_fall_1 0 rfl rfl)
theorem dX4_fall_27 : decode cX4_fall 27 = .ok (.iload_n 2, 1) := dk_28 (dk_at dksX4_fall_1 3 rfl rfl)
theorem dX4_fall_28 : decode cX4_fall 28 = .ok (.ireturn, 1) := dk_172 (dk_at dksX4_fall_1 4 rfl rfl)
abbrev cX4_isLawful : ByteArray := prog_16_method_7_code
def yX4_isLawful : MethodName := ⟨RX4, "isLawful", "(I)Z"⟩
def dkwX4_isLawful_0 : List UInt8 := [27, 153, 0, 15, 42, 27, 182, 0, 129, 154, 0, 7, 4, 167, 0, 4, 3, 172]
abbrev dktX4_isLawful_0 : List UInt8 := dkwX4_isLawful_0 ++ []
theorem dksX4_isLawful_0 : cX4_isLawful.data.toList.drop 0 = dktX4_isLawful_0 := by decide +kernel
theorem dX4_isLawful_0 : decode cX4_isLawful 0 = .ok (.iload_n 1, 1) := dk_27 (dk_at dksX4_isLawful_0 0 rfl rfl)
theorem dX4_isLawful_1 : decode cX4_isLawful 1 = .ok (.ifCond .eq 15, 3) := dk_153 0 15 (dk_at dksX4_isLawful_0 1 rfl rfl)
theorem dX4_isLawful_4 : decode cX4_isLawful 4 = .ok (.aload_n 0, 1) := dk_42 (dk_at dksX4_isLawful_0 4 rfl rfl)
theorem dX4_isLawful_5 : decode cX4_isLawful 5 = .ok (.iload_n 1, 1) := dk_27 (dk_at dksX4_isLawful_0 5 rfl rfl)
theorem dX4_isLawful_6 : decode cX4_isLawful 6 = .ok (.invokevirtual 129, 3) := dk_182 0 129 (dk_at dksX4_isLawful_0 6 rfl rfl)
theorem dX4_isLawful_9 : decode cX4_isLawful 9 = .ok (.ifCond .ne 7, 3) := dk_154 0 7 (dk_at dksX4_isLawful_0 9 rfl rfl)
theorem dX4_isLawful_12 : decode cX4_isLawful 12 = .ok (.iconst 1, 1) := dk_4 (dk_at dksX4_isLawful_0 12 rfl rfl)
theorem dX4_isLawful_13 : decode cX4_isLawful 13 = .ok (.goto 4, 3) := dk_167 0 4 (dk_at dksX4_isLawful_0 13 rfl rfl)
theorem dX4_isLawful_16 : decode cX4_isLawful 16 = .ok (.iconst 0, 1) := dk_3 (dk_at dksX4_isLawful_0 16 rfl rfl)
theorem dX4_isLawful_17 : decode cX4_isLawful 17 = .ok (.ireturn, 1) := dk_172 (dk_at dksX4_isLawful_0 17 rfl rfl)
theorem q93 : (Jvm.Cond.initialized "FiveTouch$Scene") ∈ lw_all := lw_g (lw_at lw_m1 8 rfl) rfl
theorem q176 : (Jvm.Cond.fieldLinkNest "FiveTouch$Scene" (52 : Nat) "FiveTouch$Yard" "terms" "[I" "FiveTouch") ∈ lw_tbl := lw_at lw_m1 91 rfl
theorem q209 : (Jvm.Cond.fieldLinkNest "FiveTouch$Scene" (67 : Nat) "FiveTouch$Asked" "numbers" "[J" "FiveTouch") ∈ lw_tbl := lw_at lw_m1 124 rfl
theorem q235 : (Jvm.Cond.instantiable "FiveTouch$Scene" (6 : Nat)) ∈ lw_all := lw_g (lw_at lw_m1 150 rfl) rfl
theorem q237 : (Jvm.Cond.instanceMethod ({ cls := "FiveTouch$Scene", name := "<init>", desc := "(LFiveTouch;)V" } : Jvm.MethodName)) ∈ lw_all := lw_g (lw_at lw_m1 152 rfl) rfl
theorem q238 : (Jvm.Cond.code ({ cls := "FiveTouch$Scene", name := "<init>", desc := "(LFiveTouch;)V" } : Jvm.MethodName) prog_16_method_1_code (2 : Nat) (Option.none : Option Jvm.ClassFile.FieldType)) ∈ lw_all := lw_g (lw_at lw_m1 153 rfl) rfl
theorem q239 : (Jvm.Cond.methodLink "FiveTouch$Scene" (9 : Nat) ({ cls := "java/lang/Object", name := "<init>", desc := "()V" } : Jvm.MethodName)) ∈ lw_all := lw_g (lw_at lw_m1 154 rfl) rfl
theorem q240 : (Jvm.Cond.fieldLink "FiveTouch$Scene" (15 : Nat) "FiveTouch$Scene" "needs" "[I") ∈ lw_all := lw_g (lw_at lw_m1 155 rfl) rfl
theorem q242 : (Jvm.Cond.fieldLink "FiveTouch$Scene" (19 : Nat) "FiveTouch$Scene" "more" "[I") ∈ lw_all := lw_g (lw_at lw_m1 157 rfl) rfl
theorem q243 : (Jvm.Cond.fieldLink "FiveTouch$Scene" (22 : Nat) "FiveTouch$Scene" "near" "[I") ∈ lw_all := lw_g (lw_at lw_m1 158 rfl) rfl
theorem q245 : (Jvm.Cond.fieldLink "FiveTouch$Scene" (29 : Nat) "FiveTouch$Scene" "bound" "I") ∈ lw_all := lw_g (lw_at lw_m1 160 rfl) rfl
theorem q247 : (Jvm.Cond.fieldLink "FiveTouch$Scene" (25 : Nat) "FiveTouch$Scene" "isMade" "Z") ∈ lw_all := lw_g (lw_at lw_m1 162 rfl) rfl
theorem q249 : (Jvm.Cond.fieldLink "FiveTouch$Scene" (3 : Nat) "FiveTouch$Scene" "this$0" "LFiveTouch;") ∈ lw_all := lw_g (lw_at lw_m1 164 rfl) rfl
theorem q250 : (Jvm.Cond.laysFinal "FiveTouch$Scene" "FiveTouch$Scene" "needs" "[I") ∈ lw_all := lw_g (lw_at lw_m1 165 rfl) rfl
theorem q251 : (Jvm.Cond.soleField "FiveTouch$Scene" "needs") ∈ lw_all := lw_g (lw_at lw_m1 166 rfl) rfl
theorem q252 : (Jvm.Cond.laysFinal "FiveTouch$Scene" "FiveTouch$Scene" "more" "[I") ∈ lw_all := lw_g (lw_at lw_m1 167 rfl) rfl
theorem q253 : (Jvm.Cond.soleField "FiveTouch$Scene" "more") ∈ lw_all := lw_g (lw_at lw_m1 168 rfl) rfl
theorem q254 : (Jvm.Cond.laysFinal "FiveTouch$Scene" "FiveTouch$Scene" "near" "[I") ∈ lw_all := lw_g (lw_at lw_m1 169 rfl) rfl
theorem q255 : (Jvm.Cond.soleField "FiveTouch$Scene" "near") ∈ lw_all := lw_g (lw_at lw_m1 170 rfl) rfl
theorem q256 : (Jvm.Cond.lays "FiveTouch$Scene" "FiveTouch$Scene" "bound" "I") ∈ lw_all := lw_g (lw_at lw_m1 171 rfl) rfl
theorem q257 : (Jvm.Cond.soleField "FiveTouch$Scene" "bound") ∈ lw_all := lw_g (lw_at lw_m1 172 rfl) rfl
theorem q258 : (Jvm.Cond.lays "FiveTouch$Scene" "FiveTouch$Scene" "isMade" "Z") ∈ lw_all := lw_g (lw_at lw_m1 173 rfl) rfl
theorem q259 : (Jvm.Cond.soleField "FiveTouch$Scene" "isMade") ∈ lw_all := lw_g (lw_at lw_m1 174 rfl) rfl
theorem q260 : (Jvm.Cond.laysFinal "FiveTouch$Scene" "FiveTouch$Scene" "this$0" "LFiveTouch;") ∈ lw_all := lw_g (lw_at lw_m1 175 rfl) rfl
theorem q261 : (Jvm.Cond.soleField "FiveTouch$Scene" "this$0") ∈ lw_all := lw_g (lw_at lw_m1 176 rfl) rfl
theorem q262 : (Jvm.Cond.superclass "FiveTouch$Scene" "java/lang/Object") ∈ lw_all := lw_g (lw_at lw_m1 177 rfl) rfl
theorem q268 : (Jvm.Cond.fieldLinkNest "FiveTouch$Scene" (33 : Nat) "FiveTouch" "yard" "LFiveTouch$Yard;" "FiveTouch") ∈ lw_tbl := lw_at lw_m1 183 rfl
theorem q271 : (Jvm.Cond.fieldLinkNest "FiveTouch$Scene" (63 : Nat) "FiveTouch" "asked" "LFiveTouch$Asked;" "FiveTouch") ∈ lw_tbl := lw_at lw_m1 186 rfl
theorem q273 : (Jvm.Cond.fieldLinkNest "FiveTouch$Scene" (85 : Nat) "FiveTouch" "nothingTold" "LFiveTouch$Text;" "FiveTouch") ∈ lw_tbl := lw_at lw_m1 188 rfl
theorem q360 : (Jvm.Cond.fieldLinkNest "FiveTouch$Scene" (73 : Nat) "FiveTouch$Stone" "x" "I" "FiveTouch") ∈ lw_tbl := lw_at lw_m2 35 rfl
theorem q363 : (Jvm.Cond.fieldLinkNest "FiveTouch$Scene" (47 : Nat) "FiveTouch$Stone" "y" "I" "FiveTouch") ∈ lw_tbl := lw_at lw_m2 38 rfl
theorem q366 : (Jvm.Cond.fieldLinkNest "FiveTouch$Scene" (76 : Nat) "FiveTouch$Stone" "wide" "I" "FiveTouch") ∈ lw_tbl := lw_at lw_m2 41 rfl
theorem q369 : (Jvm.Cond.fieldLinkNest "FiveTouch$Scene" (79 : Nat) "FiveTouch$Stone" "tall" "I" "FiveTouch") ∈ lw_tbl := lw_at lw_m2 44 rfl
theorem q372 : (Jvm.Cond.fieldLinkNest "FiveTouch$Scene" (82 : Nat) "FiveTouch$Stone" "facts" "[I" "FiveTouch") ∈ lw_tbl := lw_at lw_m2 47 rfl
theorem q477 : (Jvm.Cond.selects "FiveTouch$Scene" ({ cls := "java/lang/Object", name := "getClass", desc := "()Ljava/lang/Class;" } : Jvm.MethodName) ({ cls := "java/lang/Object", name := "getClass", desc := "()Ljava/lang/Class;" } : Jvm.MethodName)) ∈ lw_all := lw_g (lw_at lw_m2 152 rfl) rfl
theorem q970 : (Jvm.Cond.instanceMethod ({ cls := "FiveTouch$Scene", name := "make", desc := "()LFiveTouch$Scene;" } : Jvm.MethodName)) ∈ lw_all := lw_g (lw_at lw_m4 165 rfl) rfl
theorem q971 : (Jvm.Cond.selects "FiveTouch$Scene" ({ cls := "FiveTouch$Scene", name := "make", desc := "()LFiveTouch$Scene;" } : Jvm.MethodName) ({ cls := "FiveTouch$Scene", name := "make", desc := "()LFiveTouch$Scene;" } : Jvm.MethodName)) ∈ lw_all := lw_g (lw_at lw_m4 166 rfl) rfl
theorem q972 : (Jvm.Cond.code ({ cls := "FiveTouch$Scene", name := "make", desc := "()LFiveTouch$Scene;" } : Jvm.MethodName) prog_16_method_2_code (4 : Nat) (Option.some (Jvm.ClassFile.FieldType.object "FiveTouch$Scene"))) ∈ lw_all := lw_g (lw_at lw_m4 167 rfl) rfl
theorem q973 : (Jvm.Cond.methodLink "FiveTouch$Scene" (37 : Nat) ({ cls := "FiveTouch$Yard", name := "of", desc := "(I)LFiveTouch$Stone;" } : Jvm.MethodName)) ∈ lw_all := lw_g (lw_at lw_m4 168 rfl) rfl
theorem q974 : (Jvm.Cond.methodLink "FiveTouch$Scene" (43 : Nat) ({ cls := "FiveTouch$Scene", name := "ask", desc := "(ILFiveTouch$Stone;)V" } : Jvm.MethodName)) ∈ lw_all := lw_g (lw_at lw_m4 169 rfl) rfl
theorem q975 : (Jvm.Cond.privateMethod ({ cls := "FiveTouch$Scene", name := "ask", desc := "(ILFiveTouch$Stone;)V" } : Jvm.MethodName)) ∈ lw_tbl := lw_at lw_m4 170 rfl
theorem q976 : (Jvm.Cond.instanceMethod ({ cls := "FiveTouch$Scene", name := "ask", desc := "(ILFiveTouch$Stone;)V" } : Jvm.MethodName)) ∈ lw_all := lw_g (lw_at lw_m4 171 rfl) rfl
theorem q977 : (Jvm.Cond.code ({ cls := "FiveTouch$Scene", name := "ask", desc := "(ILFiveTouch$Stone;)V" } : Jvm.MethodName) prog_16_method_3_code (4 : Nat) (Option.none : Option Jvm.ClassFile.FieldType)) ∈ lw_all := lw_g (lw_at lw_m4 172 rfl) rfl
theorem q978 : (Jvm.Cond.methodLink "FiveTouch$Scene" (89 : Nat) ({ cls := "FiveTouch$Yard", name := "law", desc := "(LFiveTouch$Text;)LFiveTouch$Text;" } : Jvm.MethodName)) ∈ lw_all := lw_g (lw_at lw_m4 173 rfl) rfl
theorem q983 : (Jvm.Cond.constantLong "FiveTouch$Scene" (93 : Nat) (12 : Int64)) ∈ lw_all := lw_g (lw_at lw_m4 178 rfl) rfl
theorem q984 : (Jvm.Cond.methodLink "FiveTouch$Scene" (97 : Nat) ({ cls := "FiveTouch$Text", name := "tells", desc := "(ILFiveTouch$Asked;J)J" } : Jvm.MethodName)) ∈ lw_all := lw_g (lw_at lw_m4 179 rfl) rfl
theorem q1026 : (Jvm.Cond.methodLink "FiveTouch$Scene" (103 : Nat) ({ cls := "java/lang/Math", name := "min", desc := "(JJ)J" } : Jvm.MethodName)) ∈ lw_all := lw_g (lw_at lw_m4 221 rfl) rfl
theorem q1029 : (Jvm.Cond.methodLink "FiveTouch$Scene" (109 : Nat) ({ cls := "java/lang/Math", name := "max", desc := "(JJ)J" } : Jvm.MethodName)) ∈ lw_all := lw_g (lw_at lw_m4 224 rfl) rfl
theorem q1032 : (Jvm.Cond.methodLink "FiveTouch$Scene" (112 : Nat) ({ cls := "FiveTouch$Text", name := "has", desc := "(ILFiveTouch$Asked;)Z" } : Jvm.MethodName)) ∈ lw_all := lw_g (lw_at lw_m4 227 rfl) rfl
theorem q1036 : (Jvm.Cond.methodLink "FiveTouch$Scene" (55 : Nat) ({ cls := "FiveTouch$Stone", name := "sides", desc := "()I" } : Jvm.MethodName)) ∈ lw_all := lw_g (lw_at lw_m4 231 rfl) rfl
theorem q1040 : (Jvm.Cond.methodLink "FiveTouch$Scene" (59 : Nat) ({ cls := "FiveTouch$Stone", name := "touches", desc := "(LFiveTouch$Stone;)Z" } : Jvm.MethodName)) ∈ lw_all := lw_g (lw_at lw_m4 235 rfl) rfl
theorem q1045 : (Jvm.Cond.instanceMethod ({ cls := "FiveTouch$Scene", name := "touches", desc := "(II)I" } : Jvm.MethodName)) ∈ lw_all := lw_g (lw_at lw_m5 0 rfl) rfl
theorem q1046 : (Jvm.Cond.selects "FiveTouch$Scene" ({ cls := "FiveTouch$Scene", name := "touches", desc := "(II)I" } : Jvm.MethodName) ({ cls := "FiveTouch$Scene", name := "touches", desc := "(II)I" } : Jvm.MethodName)) ∈ lw_all := lw_g (lw_at lw_m5 1 rfl) rfl
theorem q1047 : (Jvm.Cond.code ({ cls := "FiveTouch$Scene", name := "touches", desc := "(II)I" } : Jvm.MethodName) prog_16_method_4_code (3 : Nat) (Option.some Jvm.ClassFile.FieldType.int)) ∈ lw_all := lw_g (lw_at lw_m5 2 rfl) rfl
theorem q1048 : (Jvm.Cond.methodLinkNest "FiveTouch$Scene" (116 : Nat) ({ cls := "FiveTouch", name := "size", desc := "(I)I" } : Jvm.MethodName) "FiveTouch") ∈ lw_tbl := lw_at lw_m5 3 rfl
theorem q1062 : (Jvm.Cond.instanceMethod ({ cls := "FiveTouch$Scene", name := "weak", desc := "(I)I" } : Jvm.MethodName)) ∈ lw_all := lw_g (lw_at lw_m5 17 rfl) rfl
theorem q1063 : (Jvm.Cond.selects "FiveTouch$Scene" ({ cls := "FiveTouch$Scene", name := "weak", desc := "(I)I" } : Jvm.MethodName) ({ cls := "FiveTouch$Scene", name := "weak", desc := "(I)I" } : Jvm.MethodName)) ∈ lw_all := lw_g (lw_at lw_m5 18 rfl) rfl
theorem q1064 : (Jvm.Cond.code ({ cls := "FiveTouch$Scene", name := "weak", desc := "(I)I" } : Jvm.MethodName) prog_16_method_6_code (4 : Nat) (Option.some Jvm.ClassFile.FieldType.int)) ∈ lw_all := lw_g (lw_at lw_m5 19 rfl) rfl
theorem q1065 : (Jvm.Cond.methodLinkNest "FiveTouch$Scene" (120 : Nat) ({ cls := "FiveTouch", name := "has", desc := "(II)Z" } : Jvm.MethodName) "FiveTouch") ∈ lw_tbl := lw_at lw_m5 20 rfl
theorem q1066 : (Jvm.Cond.methodLink "FiveTouch$Scene" (126 : Nat) ({ cls := "FiveTouch$Scene", name := "stands", desc := "(II)Z" } : Jvm.MethodName)) ∈ lw_all := lw_g (lw_at lw_m5 21 rfl) rfl
theorem q1067 : (Jvm.Cond.instanceMethod ({ cls := "FiveTouch$Scene", name := "stands", desc := "(II)Z" } : Jvm.MethodName)) ∈ lw_all := lw_g (lw_at lw_m5 22 rfl) rfl
theorem q1068 : (Jvm.Cond.selects "FiveTouch$Scene" ({ cls := "FiveTouch$Scene", name := "stands", desc := "(II)Z" } : Jvm.MethodName) ({ cls := "FiveTouch$Scene", name := "stands", desc := "(II)Z" } : Jvm.MethodName)) ∈ lw_all := lw_g (lw_at lw_m5 23 rfl) rfl
theorem q1069 : (Jvm.Cond.code ({ cls := "FiveTouch$Scene", name := "stands", desc := "(II)Z" } : Jvm.MethodName) prog_16_method_5_code (3 : Nat) (Option.some Jvm.ClassFile.FieldType.boolean)) ∈ lw_all := lw_g (lw_at lw_m5 24 rfl) rfl
theorem q1070 : (Jvm.Cond.methodLink "FiveTouch$Scene" (123 : Nat) ({ cls := "FiveTouch$Scene", name := "touches", desc := "(II)I" } : Jvm.MethodName)) ∈ lw_all := lw_g (lw_at lw_m5 25 rfl) rfl
theorem q1093 : (Jvm.Cond.instanceMethod ({ cls := "FiveTouch$Scene", name := "fall", desc := "(I)I" } : Jvm.MethodName)) ∈ lw_all := lw_g (lw_at lw_m5 48 rfl) rfl
theorem q1094 : (Jvm.Cond.selects "FiveTouch$Scene" ({ cls := "FiveTouch$Scene", name := "fall", desc := "(I)I" } : Jvm.MethodName) ({ cls := "FiveTouch$Scene", name := "fall", desc := "(I)I" } : Jvm.MethodName)) ∈ lw_all := lw_g (lw_at lw_m5 49 rfl) rfl
theorem q1095 : (Jvm.Cond.code ({ cls := "FiveTouch$Scene", name := "fall", desc := "(I)I" } : Jvm.MethodName) prog_16_method_8_code (4 : Nat) (Option.some Jvm.ClassFile.FieldType.int)) ∈ lw_all := lw_g (lw_at lw_m5 50 rfl) rfl
theorem q1096 : (Jvm.Cond.methodLink "FiveTouch$Scene" (129 : Nat) ({ cls := "FiveTouch$Scene", name := "weak", desc := "(I)I" } : Jvm.MethodName)) ∈ lw_all := lw_g (lw_at lw_m5 51 rfl) rfl
theorem q1147 : (Jvm.Cond.instanceMethod ({ cls := "FiveTouch$Scene", name := "isLawful", desc := "(I)Z" } : Jvm.MethodName)) ∈ lw_all := lw_g (lw_at lw_m5 102 rfl) rfl
theorem q1148 : (Jvm.Cond.selects "FiveTouch$Scene" ({ cls := "FiveTouch$Scene", name := "isLawful", desc := "(I)Z" } : Jvm.MethodName) ({ cls := "FiveTouch$Scene", name := "isLawful", desc := "(I)Z" } : Jvm.MethodName)) ∈ lw_all := lw_g (lw_at lw_m5 103 rfl) rfl
theorem q1149 : (Jvm.Cond.code ({ cls := "FiveTouch$Scene", name := "isLawful", desc := "(I)Z" } : Jvm.MethodName) prog_16_method_7_code (2 : Nat) (Option.some Jvm.ClassFile.FieldType.boolean)) ∈ lw_all := lw_g (lw_at lw_m5 104 rfl) rfl
theorem q1865 : (Jvm.Cond.castable "FiveTouch$Scene" "java/lang/Object") ∈ lw_tbl := lw_at lw_m8 100 rfl
theorem in_X4 : ∀ w ∈ wsX40, w ∈ lw_all := lw_in wsX40 [250, 252, 254, 256, 258, 260] (by decide +kernel) (by decide +kernel)
/-! FiveTouch$Stone -/
set_option maxRecDepth 100000
def RX6 : String := "FiveTouch$Stone"
def TX6 : u_T := fun k => match k with
  | 0 => ("FiveTouch$Stone", "x", "I", true)
  | 1 => ("FiveTouch$Stone", "y", "I", true)
  | 2 => ("FiveTouch$Stone", "wide", "I", true)
  | 3 => ("FiveTouch$Stone", "tall", "I", true)
  | _ => ("FiveTouch$Stone", "facts", "[I", true)
def tyX6 : Nat → FieldType := fun k => match k with
  | 0 => .int
  | 1 => .int
  | 2 => .int
  | 3 => .int
  | _ => .array .int
abbrev wsX60 : List Cond := u_ws RX6 TX6 5
theorem nmX6 : ∀ a, a < 5 → ∀ b, b < 5 → a ≠ b → (TX6 a).2.1 ≠ (TX6 b).2.1 := by decide +kernel
theorem tyX6_ok : ∀ k, k < 5 → parseFieldDescriptor (TX6 k).2.2.1 = some (tyX6 k) := by decide +kernel
abbrev cX6_canBe : ByteArray := prog_18_method_10_code
def yX6_canBe : MethodName := ⟨RX6, "canBe", "(IIIII)Z"⟩
def dkwX6_canBe_3 : List UInt8 := [184, 0, 51, 153, 0, 7, 4, 167, 0, 4, 3, 172]
abbrev dktX6_canBe_3 : List UInt8 := dkwX6_canBe_3 ++ []
def dkwX6_canBe_2 : List UInt8 := [26, 28, 96, 16, 12, 163, 0, 28, 27, 29, 96, 16, 8, 163, 0, 20, 21, 4, 133, 10, 20, 0, 61]
abbrev dktX6_canBe_2 : List UInt8 := dkwX6_canBe_2 ++ dktX6_canBe_3
def dkwX6_canBe_1 : List UInt8 := [28, 133, 10, 20, 0, 59, 184, 0, 51, 153, 0, 48, 29, 133, 10, 20, 0, 59, 184, 0, 51, 153, 0, 36]
abbrev dktX6_canBe_1 : List UInt8 := dkwX6_canBe_1 ++ dktX6_canBe_2
def dkwX6_canBe_0 : List UInt8 := [26, 133, 9, 20, 0, 55, 184, 0, 51, 153, 0, 72, 27, 133, 9, 20, 0, 57, 184, 0, 51, 153, 0, 60]
abbrev dktX6_canBe_0 : List UInt8 := dkwX6_canBe_0 ++ dktX6_canBe_1
theorem dksX6_canBe_0 : cX6_canBe.data.toList.drop 0 = dktX6_canBe_0 := by decide +kernel
theorem dksX6_canBe_1 : cX6_canBe.data.toList.drop 24 = dktX6_canBe_1 := dk_seg dksX6_canBe_0 24 rfl rfl
theorem dksX6_canBe_2 : cX6_canBe.data.toList.drop 48 = dktX6_canBe_2 := dk_seg dksX6_canBe_1 24 rfl rfl
theorem dksX6_canBe_3 : cX6_canBe.data.toList.drop 71 = dktX6_canBe_3 := dk_seg dksX6_canBe_2 23 rfl rfl
theorem dX6_canBe_0 : decode cX6_canBe 0 = .ok (.iload_n 0, 1) := dk_26 (dk_at dksX6_canBe_0 0 rfl rfl)
theorem dX6_canBe_1 : decode cX6_canBe 1 = .ok (.i2l, 1) := dk_133 (dk_at dksX6_canBe_0 1 rfl rfl)
theorem dX6_canBe_2 : decode cX6_canBe 2 = .ok (.lconst 0, 1) := dk_9 (dk_at dksX6_canBe_0 2 rfl rfl)
theorem dX6_canBe_3 : decode cX6_canBe 3 = .ok (.ldc2_w 55, 3) := dk_20 0 55 (dk_at dksX6_canBe_0 3 rfl rfl)
theorem dX6_canBe_6 : decode cX6_canBe 6 = .ok (.invokestatic 51, 3) := dk_184 0 51 (dk_at dksX6_canBe_0 6 rfl rfl)
theorem dX6_canBe_9 : decode cX6_canBe 9 = .ok (.ifCond .eq 72, 3) := dk_153 0 72 (dk_at dksX6_canBe_0 9 rfl rfl)
theorem dX6_canBe_12 : decode cX6_canBe 12 = .ok (.iload_n 1, 1) := dk_27 (dk_at dksX6_canBe_0 12 rfl rfl)
theorem dX6_canBe_13 : decode cX6_canBe 13 = .ok (.i2l, 1) := dk_133 (dk_at dksX6_canBe_0 13 rfl rfl)
theorem dX6_canBe_14 : decode cX6_canBe 14 = .ok (.lconst 0, 1) := dk_9 (dk_at dksX6_canBe_0 14 rfl rfl)
theorem dX6_canBe_15 : decode cX6_canBe 15 = .ok (.ldc2_w 57, 3) := dk_20 0 57 (dk_at dksX6_canBe_0 15 rfl rfl)
theorem dX6_canBe_18 : decode cX6_canBe 18 = .ok (.invokestatic 51, 3) := dk_184 0 51 (dk_at dksX6_canBe_0 18 rfl rfl)
theorem dX6_canBe_21 : decode cX6_canBe 21 = .ok (.ifCond .eq 60, 3) := dk_153 0 60 (dk_at dksX6_canBe_0 21 rfl rfl)
theorem dX6_canBe_24 : decode cX6_canBe 24 = .ok (.iload_n 2, 1) := dk_28 (dk_at dksX6_canBe_1 0 rfl rfl)
theorem dX6_canBe_25 : decode cX6_canBe 25 = .ok (.i2l, 1) := dk_133 (dk_at dksX6_canBe_1 1 rfl rfl)
theorem dX6_canBe_26 : decode cX6_canBe 26 = .ok (.lconst 1, 1) := dk_10 (dk_at dksX6_canBe_1 2 rfl rfl)
theorem dX6_canBe_27 : decode cX6_canBe 27 = .ok (.ldc2_w 59, 3) := dk_20 0 59 (dk_at dksX6_canBe_1 3 rfl rfl)
theorem dX6_canBe_30 : decode cX6_canBe 30 = .ok (.invokestatic 51, 3) := dk_184 0 51 (dk_at dksX6_canBe_1 6 rfl rfl)
theorem dX6_canBe_33 : decode cX6_canBe 33 = .ok (.ifCond .eq 48, 3) := dk_153 0 48 (dk_at dksX6_canBe_1 9 rfl rfl)
theorem dX6_canBe_36 : decode cX6_canBe 36 = .ok (.iload_n 3, 1) := dk_29 (dk_at dksX6_canBe_1 12 rfl rfl)
theorem dX6_canBe_37 : decode cX6_canBe 37 = .ok (.i2l, 1) := dk_133 (dk_at dksX6_canBe_1 13 rfl rfl)
theorem dX6_canBe_38 : decode cX6_canBe 38 = .ok (.lconst 1, 1) := dk_10 (dk_at dksX6_canBe_1 14 rfl rfl)
theorem dX6_canBe_39 : decode cX6_canBe 39 = .ok (.ldc2_w 59, 3) := dk_20 0 59 (dk_at dksX6_canBe_1 15 rfl rfl)
theorem dX6_canBe_42 : decode cX6_canBe 42 = .ok (.invokestatic 51, 3) := dk_184 0 51 (dk_at dksX6_canBe_1 18 rfl rfl)
theorem dX6_canBe_45 : decode cX6_canBe 45 = .ok (.ifCond .eq 36, 3) := dk_153 0 36 (dk_at dksX6_canBe_1 21 rfl rfl)
theorem dX6_canBe_48 : decode cX6_canBe 48 = .ok (.iload_n 0, 1) := dk_26 (dk_at dksX6_canBe_2 0 rfl rfl)
theorem dX6_canBe_49 : decode cX6_canBe 49 = .ok (.iload_n 2, 1) := dk_28 (dk_at dksX6_canBe_2 1 rfl rfl)
theorem dX6_canBe_50 : decode cX6_canBe 50 = .ok (.iadd, 1) := dk_96 (dk_at dksX6_canBe_2 2 rfl rfl)
theorem dX6_canBe_51 : decode cX6_canBe 51 = .ok (.bipush 12, 2) := dk_16 12 (dk_at dksX6_canBe_2 3 rfl rfl)
theorem dX6_canBe_53 : decode cX6_canBe 53 = .ok (.if_icmp .gt 28, 3) := dk_163 0 28 (dk_at dksX6_canBe_2 5 rfl rfl)
theorem dX6_canBe_56 : decode cX6_canBe 56 = .ok (.iload_n 1, 1) := dk_27 (dk_at dksX6_canBe_2 8 rfl rfl)
theorem dX6_canBe_57 : decode cX6_canBe 57 = .ok (.iload_n 3, 1) := dk_29 (dk_at dksX6_canBe_2 9 rfl rfl)
theorem dX6_canBe_58 : decode cX6_canBe 58 = .ok (.iadd, 1) := dk_96 (dk_at dksX6_canBe_2 10 rfl rfl)
theorem dX6_canBe_59 : decode cX6_canBe 59 = .ok (.bipush 8, 2) := dk_16 8 (dk_at dksX6_canBe_2 11 rfl rfl)
theorem dX6_canBe_61 : decode cX6_canBe 61 = .ok (.if_icmp .gt 20, 3) := dk_163 0 20 (dk_at dksX6_canBe_2 13 rfl rfl)
theorem dX6_canBe_64 : decode cX6_canBe 64 = .ok (.iload 4, 2) := dk_21 4 (dk_at dksX6_canBe_2 16 rfl rfl)
theorem dX6_canBe_66 : decode cX6_canBe 66 = .ok (.i2l, 1) := dk_133 (dk_at dksX6_canBe_2 18 rfl rfl)
theorem dX6_canBe_67 : decode cX6_canBe 67 = .ok (.lconst 1, 1) := dk_10 (dk_at dksX6_canBe_2 19 rfl rfl)
theorem dX6_canBe_68 : decode cX6_canBe 68 = .ok (.ldc2_w 61, 3) := dk_20 0 61 (dk_at dksX6_canBe_2 20 rfl rfl)
theorem dX6_canBe_71 : decode cX6_canBe 71 = .ok (.invokestatic 51, 3) := dk_184 0 51 (dk_at dksX6_canBe_3 0 rfl rfl)
theorem dX6_canBe_74 : decode cX6_canBe 74 = .ok (.ifCond .eq 7, 3) := dk_153 0 7 (dk_at dksX6_canBe_3 3 rfl rfl)
theorem dX6_canBe_77 : decode cX6_canBe 77 = .ok (.iconst 1, 1) := dk_4 (dk_at dksX6_canBe_3 6 rfl rfl)
theorem dX6_canBe_78 : decode cX6_canBe 78 = .ok (.goto 4, 3) := dk_167 0 4 (dk_at dksX6_canBe_3 7 rfl rfl)
theorem dX6_canBe_81 : decode cX6_canBe 81 = .ok (.iconst 0, 1) := dk_3 (dk_at dksX6_canBe_3 10 rfl rfl)
theorem dX6_canBe_82 : decode cX6_canBe 82 = .ok (.ireturn, 1) := dk_172 (dk_at dksX6_canBe_3 11 rfl rfl)
abbrev cX6_init : ByteArray := prog_18_method_1_code
def yX6_init : MethodName := ⟨RX6, "<init>", "(IIIII)V"⟩
def dkwX6_init_1 : List UInt8 := [181, 0, 22, 42, 21, 4, 181, 0, 25, 42, 180, 0, 9, 3, 21, 5, 79, 177]
abbrev dktX6_init_1 : List UInt8 := dkwX6_init_1 ++ []
def dkwX6_init_0 : List UInt8 := [42, 183, 0, 3, 42, 6, 188, 10, 181, 0, 9, 42, 27, 181, 0, 15, 42, 28, 181, 0, 19, 42, 29]
abbrev dktX6_init_0 : List UInt8 := dkwX6_init_0 ++ dktX6_init_1
theorem dksX6_init_0 : cX6_init.data.toList.drop 0 = dktX6_init_0 := by decide +kernel
theorem dksX6_init_1 : cX6_init.data.toList.drop 23 = dktX6_init_1 := dk_seg dksX6_init_0 23 rfl rfl
theorem dX6_init_0 : decode cX6_init 0 = .ok (.aload_n 0, 1) := dk_42 (dk_at dksX6_init_0 0 rfl rfl)
theorem dX6_init_1 : decode cX6_init 1 = .ok (.invokespecial 3, 3) := dk_183 0 3 (dk_at dksX6_init_0 1 rfl rfl)
theorem dX6_init_4 : decode cX6_init 4 = .ok (.aload_n 0, 1) := dk_42 (dk_at dksX6_init_0 4 rfl rfl)
theorem dX6_init_5 : decode cX6_init 5 = .ok (.iconst 3, 1) := dk_6 (dk_at dksX6_init_0 5 rfl rfl)
theorem dX6_init_6 : decode cX6_init 6 = .ok (.newarray .int, 2) := dk_188_10 (dk_at dksX6_init_0 6 rfl rfl)
theorem dX6_init_8 : decode cX6_init 8 = .ok (.putfield 9, 3) := dk_181 0 9 (dk_at dksX6_init_0 8 rfl rfl)
theorem dX6_init_11 : decode cX6_init 11 = .ok (.aload_n 0, 1) := dk_42 (dk_at dksX6_init_0 11 rfl rfl)
theorem dX6_init_12 : decode cX6_init 12 = .ok (.iload_n 1, 1) := dk_27 (dk_at dksX6_init_0 12 rfl rfl)
theorem dX6_init_13 : decode cX6_init 13 = .ok (.putfield 15, 3) := dk_181 0 15 (dk_at dksX6_init_0 13 rfl rfl)
theorem dX6_init_16 : decode cX6_init 16 = .ok (.aload_n 0, 1) := dk_42 (dk_at dksX6_init_0 16 rfl rfl)
theorem dX6_init_17 : decode cX6_init 17 = .ok (.iload_n 2, 1) := dk_28 (dk_at dksX6_init_0 17 rfl rfl)
theorem dX6_init_18 : decode cX6_init 18 = .ok (.putfield 19, 3) := dk_181 0 19 (dk_at dksX6_init_0 18 rfl rfl)
theorem dX6_init_21 : decode cX6_init 21 = .ok (.aload_n 0, 1) := dk_42 (dk_at dksX6_init_0 21 rfl rfl)
theorem dX6_init_22 : decode cX6_init 22 = .ok (.iload_n 3, 1) := dk_29 (dk_at dksX6_init_0 22 rfl rfl)
theorem dX6_init_23 : decode cX6_init 23 = .ok (.putfield 22, 3) := dk_181 0 22 (dk_at dksX6_init_1 0 rfl rfl)
theorem dX6_init_26 : decode cX6_init 26 = .ok (.aload_n 0, 1) := dk_42 (dk_at dksX6_init_1 3 rfl rfl)
theorem dX6_init_27 : decode cX6_init 27 = .ok (.iload 4, 2) := dk_21 4 (dk_at dksX6_init_1 4 rfl rfl)
theorem dX6_init_29 : decode cX6_init 29 = .ok (.putfield 25, 3) := dk_181 0 25 (dk_at dksX6_init_1 6 rfl rfl)
theorem dX6_init_32 : decode cX6_init 32 = .ok (.aload_n 0, 1) := dk_42 (dk_at dksX6_init_1 9 rfl rfl)
theorem dX6_init_33 : decode cX6_init 33 = .ok (.getfield 9, 3) := dk_180 0 9 (dk_at dksX6_init_1 10 rfl rfl)
theorem dX6_init_36 : decode cX6_init 36 = .ok (.iconst 0, 1) := dk_3 (dk_at dksX6_init_1 13 rfl rfl)
theorem dX6_init_37 : decode cX6_init 37 = .ok (.iload 5, 2) := dk_21 5 (dk_at dksX6_init_1 14 rfl rfl)
theorem dX6_init_39 : decode cX6_init 39 = .ok (.iastore, 1) := dk_79 (dk_at dksX6_init_1 16 rfl rfl)
theorem dX6_init_40 : decode cX6_init 40 = .ok (.return_, 1) := dk_177 (dk_at dksX6_init_1 17 rfl rfl)
abbrev cX6_meets : ByteArray := prog_18_method_6_code
def yX6_meets : MethodName := ⟨RX6, "meets", "(LFiveTouch$Stone;)Z"⟩
def dkwX6_meets_0 : List UInt8 := [42, 43, 182, 0, 44, 158, 0, 15, 42, 43, 182, 0, 48, 158, 0, 7, 4, 167, 0, 4, 3, 172]
abbrev dktX6_meets_0 : List UInt8 := dkwX6_meets_0 ++ []
theorem dksX6_meets_0 : cX6_meets.data.toList.drop 0 = dktX6_meets_0 := by decide +kernel
theorem dX6_meets_0 : decode cX6_meets 0 = .ok (.aload_n 0, 1) := dk_42 (dk_at dksX6_meets_0 0 rfl rfl)
theorem dX6_meets_1 : decode cX6_meets 1 = .ok (.aload_n 1, 1) := dk_43 (dk_at dksX6_meets_0 1 rfl rfl)
theorem dX6_meets_2 : decode cX6_meets 2 = .ok (.invokevirtual 44, 3) := dk_182 0 44 (dk_at dksX6_meets_0 2 rfl rfl)
theorem dX6_meets_5 : decode cX6_meets 5 = .ok (.ifCond .le 15, 3) := dk_158 0 15 (dk_at dksX6_meets_0 5 rfl rfl)
theorem dX6_meets_8 : decode cX6_meets 8 = .ok (.aload_n 0, 1) := dk_42 (dk_at dksX6_meets_0 8 rfl rfl)
theorem dX6_meets_9 : decode cX6_meets 9 = .ok (.aload_n 1, 1) := dk_43 (dk_at dksX6_meets_0 9 rfl rfl)
theorem dX6_meets_10 : decode cX6_meets 10 = .ok (.invokevirtual 48, 3) := dk_182 0 48 (dk_at dksX6_meets_0 10 rfl rfl)
theorem dX6_meets_13 : decode cX6_meets 13 = .ok (.ifCond .le 7, 3) := dk_158 0 7 (dk_at dksX6_meets_0 13 rfl rfl)
theorem dX6_meets_16 : decode cX6_meets 16 = .ok (.iconst 1, 1) := dk_4 (dk_at dksX6_meets_0 16 rfl rfl)
theorem dX6_meets_17 : decode cX6_meets 17 = .ok (.goto 4, 3) := dk_167 0 4 (dk_at dksX6_meets_0 17 rfl rfl)
theorem dX6_meets_20 : decode cX6_meets 20 = .ok (.iconst 0, 1) := dk_3 (dk_at dksX6_meets_0 20 rfl rfl)
theorem dX6_meets_21 : decode cX6_meets 21 = .ok (.ireturn, 1) := dk_172 (dk_at dksX6_meets_0 21 rfl rfl)
abbrev cX6_columns : ByteArray := prog_18_method_4_code
def yX6_columns : MethodName := ⟨RX6, "columns", "(LFiveTouch$Stone;)I"⟩
def dkwX6_columns_0 : List UInt8 := [42, 180, 0, 15, 42, 180, 0, 22, 43, 180, 0, 15, 43, 180, 0, 22, 184, 0, 40, 172]
abbrev dktX6_columns_0 : List UInt8 := dkwX6_columns_0 ++ []
theorem dksX6_columns_0 : cX6_columns.data.toList.drop 0 = dktX6_columns_0 := by decide +kernel
theorem dX6_columns_0 : decode cX6_columns 0 = .ok (.aload_n 0, 1) := dk_42 (dk_at dksX6_columns_0 0 rfl rfl)
theorem dX6_columns_1 : decode cX6_columns 1 = .ok (.getfield 15, 3) := dk_180 0 15 (dk_at dksX6_columns_0 1 rfl rfl)
theorem dX6_columns_4 : decode cX6_columns 4 = .ok (.aload_n 0, 1) := dk_42 (dk_at dksX6_columns_0 4 rfl rfl)
theorem dX6_columns_5 : decode cX6_columns 5 = .ok (.getfield 22, 3) := dk_180 0 22 (dk_at dksX6_columns_0 5 rfl rfl)
theorem dX6_columns_8 : decode cX6_columns 8 = .ok (.aload_n 1, 1) := dk_43 (dk_at dksX6_columns_0 8 rfl rfl)
theorem dX6_columns_9 : decode cX6_columns 9 = .ok (.getfield 15, 3) := dk_180 0 15 (dk_at dksX6_columns_0 9 rfl rfl)
theorem dX6_columns_12 : decode cX6_columns 12 = .ok (.aload_n 1, 1) := dk_43 (dk_at dksX6_columns_0 12 rfl rfl)
theorem dX6_columns_13 : decode cX6_columns 13 = .ok (.getfield 22, 3) := dk_180 0 22 (dk_at dksX6_columns_0 13 rfl rfl)
theorem dX6_columns_16 : decode cX6_columns 16 = .ok (.invokestatic 40, 3) := dk_184 0 40 (dk_at dksX6_columns_0 16 rfl rfl)
theorem dX6_columns_19 : decode cX6_columns 19 = .ok (.ireturn, 1) := dk_172 (dk_at dksX6_columns_0 19 rfl rfl)
abbrev cX6_common : ByteArray := prog_18_method_3_code
def yX6_common : MethodName := ⟨RX6, "common", "(IIII)I"⟩
def dkwX6_common_0 : List UInt8 := [26, 27, 96, 28, 29, 96, 184, 0, 31, 26, 28, 184, 0, 37, 100, 172]
abbrev dktX6_common_0 : List UInt8 := dkwX6_common_0 ++ []
theorem dksX6_common_0 : cX6_common.data.toList.drop 0 = dktX6_common_0 := by decide +kernel
theorem dX6_common_0 : decode cX6_common 0 = .ok (.iload_n 0, 1) := dk_26 (dk_at dksX6_common_0 0 rfl rfl)
theorem dX6_common_1 : decode cX6_common 1 = .ok (.iload_n 1, 1) := dk_27 (dk_at dksX6_common_0 1 rfl rfl)
theorem dX6_common_2 : decode cX6_common 2 = .ok (.iadd, 1) := dk_96 (dk_at dksX6_common_0 2 rfl rfl)
theorem dX6_common_3 : decode cX6_common 3 = .ok (.iload_n 2, 1) := dk_28 (dk_at dksX6_common_0 3 rfl rfl)
theorem dX6_common_4 : decode cX6_common 4 = .ok (.iload_n 3, 1) := dk_29 (dk_at dksX6_common_0 4 rfl rfl)
theorem dX6_common_5 : decode cX6_common 5 = .ok (.iadd, 1) := dk_96 (dk_at dksX6_common_0 5 rfl rfl)
theorem dX6_common_6 : decode cX6_common 6 = .ok (.invokestatic 31, 3) := dk_184 0 31 (dk_at dksX6_common_0 6 rfl rfl)
theorem dX6_common_9 : decode cX6_common 9 = .ok (.iload_n 0, 1) := dk_26 (dk_at dksX6_common_0 9 rfl rfl)
theorem dX6_common_10 : decode cX6_common 10 = .ok (.iload_n 2, 1) := dk_28 (dk_at dksX6_common_0 10 rfl rfl)
theorem dX6_common_11 : decode cX6_common 11 = .ok (.invokestatic 37, 3) := dk_184 0 37 (dk_at dksX6_common_0 11 rfl rfl)
theorem dX6_common_14 : decode cX6_common 14 = .ok (.isub, 1) := dk_100 (dk_at dksX6_common_0 14 rfl rfl)
theorem dX6_common_15 : decode cX6_common 15 = .ok (.ireturn, 1) := dk_172 (dk_at dksX6_common_0 15 rfl rfl)
abbrev cX6_rows : ByteArray := prog_18_method_5_code
def yX6_rows : MethodName := ⟨RX6, "rows", "(LFiveTouch$Stone;)I"⟩
def dkwX6_rows_0 : List UInt8 := [42, 180, 0, 19, 42, 180, 0, 25, 43, 180, 0, 19, 43, 180, 0, 25, 184, 0, 40, 172]
abbrev dktX6_rows_0 : List UInt8 := dkwX6_rows_0 ++ []
theorem dksX6_rows_0 : cX6_rows.data.toList.drop 0 = dktX6_rows_0 := by decide +kernel
theorem dX6_rows_0 : decode cX6_rows 0 = .ok (.aload_n 0, 1) := dk_42 (dk_at dksX6_rows_0 0 rfl rfl)
theorem dX6_rows_1 : decode cX6_rows 1 = .ok (.getfield 19, 3) := dk_180 0 19 (dk_at dksX6_rows_0 1 rfl rfl)
theorem dX6_rows_4 : decode cX6_rows 4 = .ok (.aload_n 0, 1) := dk_42 (dk_at dksX6_rows_0 4 rfl rfl)
theorem dX6_rows_5 : decode cX6_rows 5 = .ok (.getfield 25, 3) := dk_180 0 25 (dk_at dksX6_rows_0 5 rfl rfl)
theorem dX6_rows_8 : decode cX6_rows 8 = .ok (.aload_n 1, 1) := dk_43 (dk_at dksX6_rows_0 8 rfl rfl)
theorem dX6_rows_9 : decode cX6_rows 9 = .ok (.getfield 19, 3) := dk_180 0 19 (dk_at dksX6_rows_0 9 rfl rfl)
theorem dX6_rows_12 : decode cX6_rows 12 = .ok (.aload_n 1, 1) := dk_43 (dk_at dksX6_rows_0 12 rfl rfl)
theorem dX6_rows_13 : decode cX6_rows 13 = .ok (.getfield 25, 3) := dk_180 0 25 (dk_at dksX6_rows_0 13 rfl rfl)
theorem dX6_rows_16 : decode cX6_rows 16 = .ok (.invokestatic 40, 3) := dk_184 0 40 (dk_at dksX6_rows_0 16 rfl rfl)
theorem dX6_rows_19 : decode cX6_rows 19 = .ok (.ireturn, 1) := dk_172 (dk_at dksX6_rows_0 19 rfl rfl)
abbrev cX6_has : ByteArray := prog_18_method_8_code
def yX6_has : MethodName := ⟨RX6, "has", "(II)Z"⟩
def dkwX6_has_2 : List UInt8 := [184, 0, 51, 153, 0, 7, 4, 167, 0, 4, 3, 172]
abbrev dktX6_has_2 : List UInt8 := dkwX6_has_2 ++ []
def dkwX6_has_1 : List UInt8 := [153, 0, 32, 28, 133, 42, 180, 0, 19, 133, 42, 180, 0, 19, 42, 180, 0, 25, 96, 4, 100, 133]
abbrev dktX6_has_1 : List UInt8 := dkwX6_has_1 ++ dktX6_has_2
def dkwX6_has_0 : List UInt8 := [27, 133, 42, 180, 0, 15, 133, 42, 180, 0, 15, 42, 180, 0, 22, 96, 4, 100, 133, 184, 0, 51]
abbrev dktX6_has_0 : List UInt8 := dkwX6_has_0 ++ dktX6_has_1
theorem dksX6_has_0 : cX6_has.data.toList.drop 0 = dktX6_has_0 := by decide +kernel
theorem dksX6_has_1 : cX6_has.data.toList.drop 22 = dktX6_has_1 := dk_seg dksX6_has_0 22 rfl rfl
theorem dksX6_has_2 : cX6_has.data.toList.drop 44 = dktX6_has_2 := dk_seg dksX6_has_1 22 rfl rfl
theorem dX6_has_0 : decode cX6_has 0 = .ok (.iload_n 1, 1) := dk_27 (dk_at dksX6_has_0 0 rfl rfl)
theorem dX6_has_1 : decode cX6_has 1 = .ok (.i2l, 1) := dk_133 (dk_at dksX6_has_0 1 rfl rfl)
theorem dX6_has_2 : decode cX6_has 2 = .ok (.aload_n 0, 1) := dk_42 (dk_at dksX6_has_0 2 rfl rfl)
theorem dX6_has_3 : decode cX6_has 3 = .ok (.getfield 15, 3) := dk_180 0 15 (dk_at dksX6_has_0 3 rfl rfl)
theorem dX6_has_6 : decode cX6_has 6 = .ok (.i2l, 1) := dk_133 (dk_at dksX6_has_0 6 rfl rfl)
theorem dX6_has_7 : decode cX6_has 7 = .ok (.aload_n 0, 1) := dk_42 (dk_at dksX6_has_0 7 rfl rfl)
theorem dX6_has_8 : decode cX6_has 8 = .ok (.getfield 15, 3) := dk_180 0 15 (dk_at dksX6_has_0 8 rfl rfl)
theorem dX6_has_11 : decode cX6_has 11 = .ok (.aload_n 0, 1) := dk_42 (dk_at dksX6_has_0 11 rfl rfl)
theorem dX6_has_12 : decode cX6_has 12 = .ok (.getfield 22, 3) := dk_180 0 22 (dk_at dksX6_has_0 12 rfl rfl)
theorem dX6_has_15 : decode cX6_has 15 = .ok (.iadd, 1) := dk_96 (dk_at dksX6_has_0 15 rfl rfl)
theorem dX6_has_16 : decode cX6_has 16 = .ok (.iconst 1, 1) := dk_4 (dk_at dksX6_has_0 16 rfl rfl)
theorem dX6_has_17 : decode cX6_has 17 = .ok (.isub, 1) := dk_100 (dk_at dksX6_has_0 17 rfl rfl)
theorem dX6_has_18 : decode cX6_has 18 = .ok (.i2l, 1) := dk_133 (dk_at dksX6_has_0 18 rfl rfl)
theorem dX6_has_19 : decode cX6_has 19 = .ok (.invokestatic 51, 3) := dk_184 0 51 (dk_at dksX6_has_0 19 rfl rfl)
theorem dX6_has_22 : decode cX6_has 22 = .ok (.ifCond .eq 32, 3) := dk_153 0 32 (dk_at dksX6_has_1 0 rfl rfl)
theorem dX6_has_25 : decode cX6_has 25 = .ok (.iload_n 2, 1) := dk_28 (dk_at dksX6_has_1 3 rfl rfl)
theorem dX6_has_26 : decode cX6_has 26 = .ok (.i2l, 1) := dk_133 (dk_at dksX6_has_1 4 rfl rfl)
theorem dX6_has_27 : decode cX6_has 27 = .ok (.aload_n 0, 1) := dk_42 (dk_at dksX6_has_1 5 rfl rfl)
theorem dX6_has_28 : decode cX6_has 28 = .ok (.getfield 19, 3) := dk_180 0 19 (dk_at dksX6_has_1 6 rfl rfl)
theorem dX6_has_31 : decode cX6_has 31 = .ok (.i2l, 1) := dk_133 (dk_at dksX6_has_1 9 rfl rfl)
theorem dX6_has_32 : decode cX6_has 32 = .ok (.aload_n 0, 1) := dk_42 (dk_at dksX6_has_1 10 rfl rfl)
theorem dX6_has_33 : decode cX6_has 33 = .ok (.getfield 19, 3) := dk_180 0 19 (dk_at dksX6_has_1 11 rfl rfl)
theorem dX6_has_36 : decode cX6_has 36 = .ok (.aload_n 0, 1) := dk_42 (dk_at dksX6_has_1 14 rfl rfl)
theorem dX6_has_37 : decode cX6_has 37 = .ok (.getfield 25, 3) := dk_180 0 25 (dk_at dksX6_has_1 15 rfl rfl)
theorem dX6_has_40 : decode cX6_has 40 = .ok (.iadd, 1) := dk_96 (dk_at dksX6_has_1 18 rfl rfl)
theorem dX6_has_41 : decode cX6_has 41 = .ok (.iconst 1, 1) := dk_4 (dk_at dksX6_has_1 19 rfl rfl)
theorem dX6_has_42 : decode cX6_has 42 = .ok (.isub, 1) := dk_100 (dk_at dksX6_has_1 20 rfl rfl)
theorem dX6_has_43 : decode cX6_has 43 = .ok (.i2l, 1) := dk_133 (dk_at dksX6_has_1 21 rfl rfl)
theorem dX6_has_44 : decode cX6_has 44 = .ok (.invokestatic 51, 3) := dk_184 0 51 (dk_at dksX6_has_2 0 rfl rfl)
theorem dX6_has_47 : decode cX6_has 47 = .ok (.ifCond .eq 7, 3) := dk_153 0 7 (dk_at dksX6_has_2 3 rfl rfl)
theorem dX6_has_50 : decode cX6_has 50 = .ok (.iconst 1, 1) := dk_4 (dk_at dksX6_has_2 6 rfl rfl)
theorem dX6_has_51 : decode cX6_has 51 = .ok (.goto 4, 3) := dk_167 0 4 (dk_at dksX6_has_2 7 rfl rfl)
theorem dX6_has_54 : decode cX6_has 54 = .ok (.iconst 0, 1) := dk_3 (dk_at dksX6_has_2 10 rfl rfl)
theorem dX6_has_55 : decode cX6_has 55 = .ok (.ireturn, 1) := dk_172 (dk_at dksX6_has_2 11 rfl rfl)
abbrev cX6_sides : ByteArray := prog_18_method_9_code
def yX6_sides : MethodName := ⟨RX6, "sides", "()I"⟩
def dkwX6_sides_1 : List UInt8 := [160, 0, 7, 4, 167, 0, 4, 3, 96, 172]
abbrev dktX6_sides_1 : List UInt8 := dkwX6_sides_1 ++ []
def dkwX6_sides_0 : List UInt8 := [42, 180, 0, 15, 154, 0, 7, 4, 167, 0, 4, 3, 42, 180, 0, 15, 42, 180, 0, 22, 96, 16, 12]
abbrev dktX6_sides_0 : List UInt8 := dkwX6_sides_0 ++ dktX6_sides_1
theorem dksX6_sides_0 : cX6_sides.data.toList.drop 0 = dktX6_sides_0 := by decide +kernel
theorem dksX6_sides_1 : cX6_sides.data.toList.drop 23 = dktX6_sides_1 := dk_seg dksX6_sides_0 23 rfl rfl
theorem dX6_sides_0 : decode cX6_sides 0 = .ok (.aload_n 0, 1) := dk_42 (dk_at dksX6_sides_0 0 rfl rfl)
theorem dX6_sides_1 : decode cX6_sides 1 = .ok (.getfield 15, 3) := dk_180 0 15 (dk_at dksX6_sides_0 1 rfl rfl)
theorem dX6_sides_4 : decode cX6_sides 4 = .ok (.ifCond .ne 7, 3) := dk_154 0 7 (dk_at dksX6_sides_0 4 rfl rfl)
theorem dX6_sides_7 : decode cX6_sides 7 = .ok (.iconst 1, 1) := dk_4 (dk_at dksX6_sides_0 7 rfl rfl)
theorem dX6_sides_8 : decode cX6_sides 8 = .ok (.goto 4, 3) := dk_167 0 4 (dk_at dksX6_sides_0 8 rfl rfl)
theorem dX6_sides_11 : decode cX6_sides 11 = .ok (.iconst 0, 1) := dk_3 (dk_at dksX6_sides_0 11 rfl rfl)
theorem dX6_sides_12 : decode cX6_sides 12 = .ok (.aload_n 0, 1) := dk_42 (dk_at dksX6_sides_0 12 rfl rfl)
theorem dX6_sides_13 : decode cX6_sides 13 = .ok (.getfield 15, 3) := dk_180 0 15 (dk_at dksX6_sides_0 13 rfl rfl)
theorem dX6_sides_16 : decode cX6_sides 16 = .ok (.aload_n 0, 1) := dk_42 (dk_at dksX6_sides_0 16 rfl rfl)
theorem dX6_sides_17 : decode cX6_sides 17 = .ok (.getfield 22, 3) := dk_180 0 22 (dk_at dksX6_sides_0 17 rfl rfl)
theorem dX6_sides_20 : decode cX6_sides 20 = .ok (.iadd, 1) := dk_96 (dk_at dksX6_sides_0 20 rfl rfl)
theorem dX6_sides_21 : decode cX6_sides 21 = .ok (.bipush 12, 2) := dk_16 12 (dk_at dksX6_sides_0 21 rfl rfl)
theorem dX6_sides_23 : decode cX6_sides 23 = .ok (.if_icmp .ne 7, 3) := dk_160 0 7 (dk_at dksX6_sides_1 0 rfl rfl)
theorem dX6_sides_26 : decode cX6_sides 26 = .ok (.iconst 1, 1) := dk_4 (dk_at dksX6_sides_1 3 rfl rfl)
theorem dX6_sides_27 : decode cX6_sides 27 = .ok (.goto 4, 3) := dk_167 0 4 (dk_at dksX6_sides_1 4 rfl rfl)
theorem dX6_sides_30 : decode cX6_sides 30 = .ok (.iconst 0, 1) := dk_3 (dk_at dksX6_sides_1 7 rfl rfl)
theorem dX6_sides_31 : decode cX6_sides 31 = .ok (.iadd, 1) := dk_96 (dk_at dksX6_sides_1 8 rfl rfl)
theorem dX6_sides_32 : decode cX6_sides 32 = .ok (.ireturn, 1) := dk_172 (dk_at dksX6_sides_1 9 rfl rfl)
abbrev cX6_touches : ByteArray := prog_18_method_7_code
def yX6_touches : MethodName := ⟨RX6, "touches", "(LFiveTouch$Stone;)Z"⟩
def dkwX6_touches_1 : List UInt8 := [42, 43, 182, 0, 48, 154, 0, 7, 4, 167, 0, 4, 3, 172]
abbrev dktX6_touches_1 : List UInt8 := dkwX6_touches_1 ++ []
def dkwX6_touches_0 : List UInt8 := [42, 43, 182, 0, 44, 154, 0, 11, 42, 43, 182, 0, 48, 157, 0, 19, 42, 43, 182, 0, 44, 158, 0, 15]
abbrev dktX6_touches_0 : List UInt8 := dkwX6_touches_0 ++ dktX6_touches_1
theorem dksX6_touches_0 : cX6_touches.data.toList.drop 0 = dktX6_touches_0 := by decide +kernel
theorem dksX6_touches_1 : cX6_touches.data.toList.drop 24 = dktX6_touches_1 := dk_seg dksX6_touches_0 24 rfl rfl
theorem dX6_touches_0 : decode cX6_touches 0 = .ok (.aload_n 0, 1) := dk_42 (dk_at dksX6_touches_0 0 rfl rfl)
theorem dX6_touches_1 : decode cX6_touches 1 = .ok (.aload_n 1, 1) := dk_43 (dk_at dksX6_touches_0 1 rfl rfl)
theorem dX6_touches_2 : decode cX6_touches 2 = .ok (.invokevirtual 44, 3) := dk_182 0 44 (dk_at dksX6_touches_0 2 rfl rfl)
theorem dX6_touches_5 : decode cX6_touches 5 = .ok (.ifCond .ne 11, 3) := dk_154 0 11 (dk_at dksX6_touches_0 5 rfl rfl)
theorem dX6_touches_8 : decode cX6_touches 8 = .ok (.aload_n 0, 1) := dk_42 (dk_at dksX6_touches_0 8 rfl rfl)
theorem dX6_touches_9 : decode cX6_touches 9 = .ok (.aload_n 1, 1) := dk_43 (dk_at dksX6_touches_0 9 rfl rfl)
theorem dX6_touches_10 : decode cX6_touches 10 = .ok (.invokevirtual 48, 3) := dk_182 0 48 (dk_at dksX6_touches_0 10 rfl rfl)
theorem dX6_touches_13 : decode cX6_touches 13 = .ok (.ifCond .gt 19, 3) := dk_157 0 19 (dk_at dksX6_touches_0 13 rfl rfl)
theorem dX6_touches_16 : decode cX6_touches 16 = .ok (.aload_n 0, 1) := dk_42 (dk_at dksX6_touches_0 16 rfl rfl)
theorem dX6_touches_17 : decode cX6_touches 17 = .ok (.aload_n 1, 1) := dk_43 (dk_at dksX6_touches_0 17 rfl rfl)
theorem dX6_touches_18 : decode cX6_touches 18 = .ok (.invokevirtual 44, 3) := dk_182 0 44 (dk_at dksX6_touches_0 18 rfl rfl)
theorem dX6_touches_21 : decode cX6_touches 21 = .ok (.ifCond .le 15, 3) := dk_158 0 15 (dk_at dksX6_touches_0 21 rfl rfl)
theorem dX6_touches_24 : decode cX6_touches 24 = .ok (.aload_n 0, 1) := dk_42 (dk_at dksX6_touches_1 0 rfl rfl)
theorem dX6_touches_25 : decode cX6_touches 25 = .ok (.aload_n 1, 1) := dk_43 (dk_at dksX6_touches_1 1 rfl rfl)
theorem dX6_touches_26 : decode cX6_touches 26 = .ok (.invokevirtual 48, 3) := dk_182 0 48 (dk_at dksX6_touches_1 2 rfl rfl)
theorem dX6_touches_29 : decode cX6_touches 29 = .ok (.ifCond .ne 7, 3) := dk_154 0 7 (dk_at dksX6_touches_1 5 rfl rfl)
theorem dX6_touches_32 : decode cX6_touches 32 = .ok (.iconst 1, 1) := dk_4 (dk_at dksX6_touches_1 8 rfl rfl)
theorem dX6_touches_33 : decode cX6_touches 33 = .ok (.goto 4, 3) := dk_167 0 4 (dk_at dksX6_touches_1 9 rfl rfl)
theorem dX6_touches_36 : decode cX6_touches 36 = .ok (.iconst 0, 1) := dk_3 (dk_at dksX6_touches_1 12 rfl rfl)
theorem dX6_touches_37 : decode cX6_touches 37 = .ok (.ireturn, 1) := dk_172 (dk_at dksX6_touches_1 13 rfl rfl)
abbrev cX6_copy : ByteArray := prog_18_method_2_code
def yX6_copy : MethodName := ⟨RX6, "copy", "()LFiveTouch$Stone;"⟩
def dkwX6_copy_2 : List UInt8 := [180, 0, 9, 5, 46, 79, 43, 176]
abbrev dktX6_copy_2 : List UInt8 := dkwX6_copy_2 ++ []
def dkwX6_copy_1 : List UInt8 := [3, 46, 183, 0, 28, 76, 43, 180, 0, 9, 4, 42, 180, 0, 9, 4, 46, 79, 43, 180, 0, 9, 5, 42]
abbrev dktX6_copy_1 : List UInt8 := dkwX6_copy_1 ++ dktX6_copy_2
def dkwX6_copy_0 : List UInt8 := [187, 0, 10, 89, 42, 180, 0, 15, 42, 180, 0, 19, 42, 180, 0, 22, 42, 180, 0, 25, 42, 180, 0, 9]
abbrev dktX6_copy_0 : List UInt8 := dkwX6_copy_0 ++ dktX6_copy_1
theorem dksX6_copy_0 : cX6_copy.data.toList.drop 0 = dktX6_copy_0 := by decide +kernel
theorem dksX6_copy_1 : cX6_copy.data.toList.drop 24 = dktX6_copy_1 := dk_seg dksX6_copy_0 24 rfl rfl
theorem dksX6_copy_2 : cX6_copy.data.toList.drop 48 = dktX6_copy_2 := dk_seg dksX6_copy_1 24 rfl rfl
theorem dX6_copy_0 : decode cX6_copy 0 = .ok (.new 10, 3) := dk_187 0 10 (dk_at dksX6_copy_0 0 rfl rfl)
theorem dX6_copy_3 : decode cX6_copy 3 = .ok (.dup, 1) := dk_89 (dk_at dksX6_copy_0 3 rfl rfl)
theorem dX6_copy_4 : decode cX6_copy 4 = .ok (.aload_n 0, 1) := dk_42 (dk_at dksX6_copy_0 4 rfl rfl)
theorem dX6_copy_5 : decode cX6_copy 5 = .ok (.getfield 15, 3) := dk_180 0 15 (dk_at dksX6_copy_0 5 rfl rfl)
theorem dX6_copy_8 : decode cX6_copy 8 = .ok (.aload_n 0, 1) := dk_42 (dk_at dksX6_copy_0 8 rfl rfl)
theorem dX6_copy_9 : decode cX6_copy 9 = .ok (.getfield 19, 3) := dk_180 0 19 (dk_at dksX6_copy_0 9 rfl rfl)
theorem dX6_copy_12 : decode cX6_copy 12 = .ok (.aload_n 0, 1) := dk_42 (dk_at dksX6_copy_0 12 rfl rfl)
theorem dX6_copy_13 : decode cX6_copy 13 = .ok (.getfield 22, 3) := dk_180 0 22 (dk_at dksX6_copy_0 13 rfl rfl)
theorem dX6_copy_16 : decode cX6_copy 16 = .ok (.aload_n 0, 1) := dk_42 (dk_at dksX6_copy_0 16 rfl rfl)
theorem dX6_copy_17 : decode cX6_copy 17 = .ok (.getfield 25, 3) := dk_180 0 25 (dk_at dksX6_copy_0 17 rfl rfl)
theorem dX6_copy_20 : decode cX6_copy 20 = .ok (.aload_n 0, 1) := dk_42 (dk_at dksX6_copy_0 20 rfl rfl)
theorem dX6_copy_21 : decode cX6_copy 21 = .ok (.getfield 9, 3) := dk_180 0 9 (dk_at dksX6_copy_0 21 rfl rfl)
theorem dX6_copy_24 : decode cX6_copy 24 = .ok (.iconst 0, 1) := dk_3 (dk_at dksX6_copy_1 0 rfl rfl)
theorem dX6_copy_25 : decode cX6_copy 25 = .ok (.iaload, 1) := dk_46 (dk_at dksX6_copy_1 1 rfl rfl)
theorem dX6_copy_26 : decode cX6_copy 26 = .ok (.invokespecial 28, 3) := dk_183 0 28 (dk_at dksX6_copy_1 2 rfl rfl)
theorem dX6_copy_29 : decode cX6_copy 29 = .ok (.astore_n 1, 1) := dk_76 (dk_at dksX6_copy_1 5 rfl rfl)
theorem dX6_copy_30 : decode cX6_copy 30 = .ok (.aload_n 1, 1) := dk_43 (dk_at dksX6_copy_1 6 rfl rfl)
theorem dX6_copy_31 : decode cX6_copy 31 = .ok (.getfield 9, 3) := dk_180 0 9 (dk_at dksX6_copy_1 7 rfl rfl)
theorem dX6_copy_34 : decode cX6_copy 34 = .ok (.iconst 1, 1) := dk_4 (dk_at dksX6_copy_1 10 rfl rfl)
theorem dX6_copy_35 : decode cX6_copy 35 = .ok (.aload_n 0, 1) := dk_42 (dk_at dksX6_copy_1 11 rfl rfl)
theorem dX6_copy_36 : decode cX6_copy 36 = .ok (.getfield 9, 3) := dk_180 0 9 (dk_at dksX6_copy_1 12 rfl rfl)
theorem dX6_copy_39 : decode cX6_copy 39 = .ok (.iconst 1, 1) := dk_4 (dk_at dksX6_copy_1 15 rfl rfl)
theorem dX6_copy_40 : decode cX6_copy 40 = .ok (.iaload, 1) := dk_46 (dk_at dksX6_copy_1 16 rfl rfl)
theorem dX6_copy_41 : decode cX6_copy 41 = .ok (.iastore, 1) := dk_79 (dk_at dksX6_copy_1 17 rfl rfl)
theorem dX6_copy_42 : decode cX6_copy 42 = .ok (.aload_n 1, 1) := dk_43 (dk_at dksX6_copy_1 18 rfl rfl)
theorem dX6_copy_43 : decode cX6_copy 43 = .ok (.getfield 9, 3) := dk_180 0 9 (dk_at dksX6_copy_1 19 rfl rfl)
theorem dX6_copy_46 : decode cX6_copy 46 = .ok (.iconst 2, 1) := dk_5 (dk_at dksX6_copy_1 22 rfl rfl)
theorem dX6_copy_47 : decode cX6_copy 47 = .ok (.aload_n 0, 1) := dk_42 (dk_at dksX6_copy_1 23 rfl rfl)
theorem dX6_copy_48 : decode cX6_copy 48 = .ok (.getfield 9, 3) := dk_180 0 9 (dk_at dksX6_copy_2 0 rfl rfl)
theorem dX6_copy_51 : decode cX6_copy 51 = .ok (.iconst 2, 1) := dk_5 (dk_at dksX6_copy_2 3 rfl rfl)
theorem dX6_copy_52 : decode cX6_copy 52 = .ok (.iaload, 1) := dk_46 (dk_at dksX6_copy_2 4 rfl rfl)
theorem dX6_copy_53 : decode cX6_copy 53 = .ok (.iastore, 1) := dk_79 (dk_at dksX6_copy_2 5 rfl rfl)
theorem dX6_copy_54 : decode cX6_copy 54 = .ok (.aload_n 1, 1) := dk_43 (dk_at dksX6_copy_2 6 rfl rfl)
theorem dX6_copy_55 : decode cX6_copy 55 = .ok (.areturn, 1) := dk_176 (dk_at dksX6_copy_2 7 rfl rfl)
theorem q95 : (Jvm.Cond.initialized "FiveTouch$Stone") ∈ lw_all := lw_g (lw_at lw_m1 10 rfl) rfl
theorem q339 : (Jvm.Cond.static ({ cls := "FiveTouch$Stone", name := "canBe", desc := "(IIIII)Z" } : Jvm.MethodName)) ∈ lw_all := lw_g (lw_at lw_m2 14 rfl) rfl
theorem q340 : (Jvm.Cond.code ({ cls := "FiveTouch$Stone", name := "canBe", desc := "(IIIII)Z" } : Jvm.MethodName) prog_18_method_10_code (5 : Nat) (Option.some Jvm.ClassFile.FieldType.boolean)) ∈ lw_all := lw_g (lw_at lw_m2 15 rfl) rfl
theorem q341 : (Jvm.Cond.constantLong "FiveTouch$Stone" (55 : Nat) (11 : Int64)) ∈ lw_all := lw_g (lw_at lw_m2 16 rfl) rfl
theorem q342 : (Jvm.Cond.methodLinkNest "FiveTouch$Stone" (51 : Nat) ({ cls := "FiveTouch", name := "in", desc := "(JJJ)Z" } : Jvm.MethodName) "FiveTouch") ∈ lw_tbl := lw_at lw_m2 17 rfl
theorem q343 : (Jvm.Cond.constantLong "FiveTouch$Stone" (57 : Nat) (7 : Int64)) ∈ lw_all := lw_g (lw_at lw_m2 18 rfl) rfl
theorem q344 : (Jvm.Cond.constantLong "FiveTouch$Stone" (59 : Nat) (6 : Int64)) ∈ lw_all := lw_g (lw_at lw_m2 19 rfl) rfl
theorem q345 : (Jvm.Cond.constantLong "FiveTouch$Stone" (61 : Nat) (99 : Int64)) ∈ lw_all := lw_g (lw_at lw_m2 20 rfl) rfl
theorem q354 : (Jvm.Cond.instantiable "FiveTouch$Stone" (5 : Nat)) ∈ lw_all := lw_g (lw_at lw_m2 29 rfl) rfl
theorem q356 : (Jvm.Cond.instanceMethod ({ cls := "FiveTouch$Stone", name := "<init>", desc := "(IIIII)V" } : Jvm.MethodName)) ∈ lw_all := lw_g (lw_at lw_m2 31 rfl) rfl
theorem q357 : (Jvm.Cond.code ({ cls := "FiveTouch$Stone", name := "<init>", desc := "(IIIII)V" } : Jvm.MethodName) prog_18_method_1_code (6 : Nat) (Option.none : Option Jvm.ClassFile.FieldType)) ∈ lw_all := lw_g (lw_at lw_m2 32 rfl) rfl
theorem q358 : (Jvm.Cond.methodLink "FiveTouch$Stone" (3 : Nat) ({ cls := "java/lang/Object", name := "<init>", desc := "()V" } : Jvm.MethodName)) ∈ lw_all := lw_g (lw_at lw_m2 33 rfl) rfl
theorem q359 : (Jvm.Cond.fieldLink "FiveTouch$Stone" (15 : Nat) "FiveTouch$Stone" "x" "I") ∈ lw_all := lw_g (lw_at lw_m2 34 rfl) rfl
theorem q362 : (Jvm.Cond.fieldLink "FiveTouch$Stone" (19 : Nat) "FiveTouch$Stone" "y" "I") ∈ lw_all := lw_g (lw_at lw_m2 37 rfl) rfl
theorem q365 : (Jvm.Cond.fieldLink "FiveTouch$Stone" (22 : Nat) "FiveTouch$Stone" "wide" "I") ∈ lw_all := lw_g (lw_at lw_m2 40 rfl) rfl
theorem q368 : (Jvm.Cond.fieldLink "FiveTouch$Stone" (25 : Nat) "FiveTouch$Stone" "tall" "I") ∈ lw_all := lw_g (lw_at lw_m2 43 rfl) rfl
theorem q371 : (Jvm.Cond.fieldLink "FiveTouch$Stone" (9 : Nat) "FiveTouch$Stone" "facts" "[I") ∈ lw_all := lw_g (lw_at lw_m2 46 rfl) rfl
theorem q374 : (Jvm.Cond.laysFinal "FiveTouch$Stone" "FiveTouch$Stone" "x" "I") ∈ lw_all := lw_g (lw_at lw_m2 49 rfl) rfl
theorem q375 : (Jvm.Cond.soleField "FiveTouch$Stone" "x") ∈ lw_all := lw_g (lw_at lw_m2 50 rfl) rfl
theorem q376 : (Jvm.Cond.laysFinal "FiveTouch$Stone" "FiveTouch$Stone" "y" "I") ∈ lw_all := lw_g (lw_at lw_m2 51 rfl) rfl
theorem q377 : (Jvm.Cond.soleField "FiveTouch$Stone" "y") ∈ lw_all := lw_g (lw_at lw_m2 52 rfl) rfl
theorem q378 : (Jvm.Cond.laysFinal "FiveTouch$Stone" "FiveTouch$Stone" "wide" "I") ∈ lw_all := lw_g (lw_at lw_m2 53 rfl) rfl
theorem q379 : (Jvm.Cond.soleField "FiveTouch$Stone" "wide") ∈ lw_all := lw_g (lw_at lw_m2 54 rfl) rfl
theorem q380 : (Jvm.Cond.laysFinal "FiveTouch$Stone" "FiveTouch$Stone" "tall" "I") ∈ lw_all := lw_g (lw_at lw_m2 55 rfl) rfl
theorem q381 : (Jvm.Cond.soleField "FiveTouch$Stone" "tall") ∈ lw_all := lw_g (lw_at lw_m2 56 rfl) rfl
theorem q382 : (Jvm.Cond.laysFinal "FiveTouch$Stone" "FiveTouch$Stone" "facts" "[I") ∈ lw_all := lw_g (lw_at lw_m2 57 rfl) rfl
theorem q383 : (Jvm.Cond.soleField "FiveTouch$Stone" "facts") ∈ lw_all := lw_g (lw_at lw_m2 58 rfl) rfl
theorem q384 : (Jvm.Cond.superclass "FiveTouch$Stone" "java/lang/Object") ∈ lw_all := lw_g (lw_at lw_m2 59 rfl) rfl
theorem q413 : (Jvm.Cond.instanceMethod ({ cls := "FiveTouch$Stone", name := "meets", desc := "(LFiveTouch$Stone;)Z" } : Jvm.MethodName)) ∈ lw_all := lw_g (lw_at lw_m2 88 rfl) rfl
theorem q414 : (Jvm.Cond.selects "FiveTouch$Stone" ({ cls := "FiveTouch$Stone", name := "meets", desc := "(LFiveTouch$Stone;)Z" } : Jvm.MethodName) ({ cls := "FiveTouch$Stone", name := "meets", desc := "(LFiveTouch$Stone;)Z" } : Jvm.MethodName)) ∈ lw_all := lw_g (lw_at lw_m2 89 rfl) rfl
theorem q415 : (Jvm.Cond.code ({ cls := "FiveTouch$Stone", name := "meets", desc := "(LFiveTouch$Stone;)Z" } : Jvm.MethodName) prog_18_method_6_code (2 : Nat) (Option.some Jvm.ClassFile.FieldType.boolean)) ∈ lw_all := lw_g (lw_at lw_m2 90 rfl) rfl
theorem q416 : (Jvm.Cond.methodLink "FiveTouch$Stone" (44 : Nat) ({ cls := "FiveTouch$Stone", name := "columns", desc := "(LFiveTouch$Stone;)I" } : Jvm.MethodName)) ∈ lw_all := lw_g (lw_at lw_m2 91 rfl) rfl
theorem q417 : (Jvm.Cond.instanceMethod ({ cls := "FiveTouch$Stone", name := "columns", desc := "(LFiveTouch$Stone;)I" } : Jvm.MethodName)) ∈ lw_all := lw_g (lw_at lw_m2 92 rfl) rfl
theorem q418 : (Jvm.Cond.selects "FiveTouch$Stone" ({ cls := "FiveTouch$Stone", name := "columns", desc := "(LFiveTouch$Stone;)I" } : Jvm.MethodName) ({ cls := "FiveTouch$Stone", name := "columns", desc := "(LFiveTouch$Stone;)I" } : Jvm.MethodName)) ∈ lw_all := lw_g (lw_at lw_m2 93 rfl) rfl
theorem q419 : (Jvm.Cond.code ({ cls := "FiveTouch$Stone", name := "columns", desc := "(LFiveTouch$Stone;)I" } : Jvm.MethodName) prog_18_method_4_code (2 : Nat) (Option.some Jvm.ClassFile.FieldType.int)) ∈ lw_all := lw_g (lw_at lw_m2 94 rfl) rfl
theorem q420 : (Jvm.Cond.methodLink "FiveTouch$Stone" (40 : Nat) ({ cls := "FiveTouch$Stone", name := "common", desc := "(IIII)I" } : Jvm.MethodName)) ∈ lw_all := lw_g (lw_at lw_m2 95 rfl) rfl
theorem q421 : (Jvm.Cond.static ({ cls := "FiveTouch$Stone", name := "common", desc := "(IIII)I" } : Jvm.MethodName)) ∈ lw_all := lw_g (lw_at lw_m2 96 rfl) rfl
theorem q422 : (Jvm.Cond.code ({ cls := "FiveTouch$Stone", name := "common", desc := "(IIII)I" } : Jvm.MethodName) prog_18_method_3_code (4 : Nat) (Option.some Jvm.ClassFile.FieldType.int)) ∈ lw_all := lw_g (lw_at lw_m2 97 rfl) rfl
theorem q423 : (Jvm.Cond.methodLink "FiveTouch$Stone" (31 : Nat) ({ cls := "java/lang/Math", name := "min", desc := "(II)I" } : Jvm.MethodName)) ∈ lw_all := lw_g (lw_at lw_m2 98 rfl) rfl
theorem q424 : (Jvm.Cond.methodLink "FiveTouch$Stone" (37 : Nat) ({ cls := "java/lang/Math", name := "max", desc := "(II)I" } : Jvm.MethodName)) ∈ lw_all := lw_g (lw_at lw_m2 99 rfl) rfl
theorem q427 : (Jvm.Cond.methodLink "FiveTouch$Stone" (48 : Nat) ({ cls := "FiveTouch$Stone", name := "rows", desc := "(LFiveTouch$Stone;)I" } : Jvm.MethodName)) ∈ lw_all := lw_g (lw_at lw_m2 102 rfl) rfl
theorem q428 : (Jvm.Cond.instanceMethod ({ cls := "FiveTouch$Stone", name := "rows", desc := "(LFiveTouch$Stone;)I" } : Jvm.MethodName)) ∈ lw_all := lw_g (lw_at lw_m2 103 rfl) rfl
theorem q429 : (Jvm.Cond.selects "FiveTouch$Stone" ({ cls := "FiveTouch$Stone", name := "rows", desc := "(LFiveTouch$Stone;)I" } : Jvm.MethodName) ({ cls := "FiveTouch$Stone", name := "rows", desc := "(LFiveTouch$Stone;)I" } : Jvm.MethodName)) ∈ lw_all := lw_g (lw_at lw_m2 104 rfl) rfl
theorem q430 : (Jvm.Cond.code ({ cls := "FiveTouch$Stone", name := "rows", desc := "(LFiveTouch$Stone;)I" } : Jvm.MethodName) prog_18_method_5_code (2 : Nat) (Option.some Jvm.ClassFile.FieldType.int)) ∈ lw_all := lw_g (lw_at lw_m2 105 rfl) rfl
theorem q478 : (Jvm.Cond.selects "FiveTouch$Stone" ({ cls := "java/lang/Object", name := "getClass", desc := "()Ljava/lang/Class;" } : Jvm.MethodName) ({ cls := "java/lang/Object", name := "getClass", desc := "()Ljava/lang/Class;" } : Jvm.MethodName)) ∈ lw_all := lw_g (lw_at lw_m2 153 rfl) rfl
theorem q962 : (Jvm.Cond.instanceMethod ({ cls := "FiveTouch$Stone", name := "has", desc := "(II)Z" } : Jvm.MethodName)) ∈ lw_all := lw_g (lw_at lw_m4 157 rfl) rfl
theorem q963 : (Jvm.Cond.selects "FiveTouch$Stone" ({ cls := "FiveTouch$Stone", name := "has", desc := "(II)Z" } : Jvm.MethodName) ({ cls := "FiveTouch$Stone", name := "has", desc := "(II)Z" } : Jvm.MethodName)) ∈ lw_all := lw_g (lw_at lw_m4 158 rfl) rfl
theorem q964 : (Jvm.Cond.code ({ cls := "FiveTouch$Stone", name := "has", desc := "(II)Z" } : Jvm.MethodName) prog_18_method_8_code (3 : Nat) (Option.some Jvm.ClassFile.FieldType.boolean)) ∈ lw_all := lw_g (lw_at lw_m4 159 rfl) rfl
theorem q1037 : (Jvm.Cond.instanceMethod ({ cls := "FiveTouch$Stone", name := "sides", desc := "()I" } : Jvm.MethodName)) ∈ lw_all := lw_g (lw_at lw_m4 232 rfl) rfl
theorem q1038 : (Jvm.Cond.selects "FiveTouch$Stone" ({ cls := "FiveTouch$Stone", name := "sides", desc := "()I" } : Jvm.MethodName) ({ cls := "FiveTouch$Stone", name := "sides", desc := "()I" } : Jvm.MethodName)) ∈ lw_all := lw_g (lw_at lw_m4 233 rfl) rfl
theorem q1039 : (Jvm.Cond.code ({ cls := "FiveTouch$Stone", name := "sides", desc := "()I" } : Jvm.MethodName) prog_18_method_9_code (1 : Nat) (Option.some Jvm.ClassFile.FieldType.int)) ∈ lw_all := lw_g (lw_at lw_m4 234 rfl) rfl
theorem q1041 : (Jvm.Cond.instanceMethod ({ cls := "FiveTouch$Stone", name := "touches", desc := "(LFiveTouch$Stone;)Z" } : Jvm.MethodName)) ∈ lw_all := lw_g (lw_at lw_m4 236 rfl) rfl
theorem q1042 : (Jvm.Cond.selects "FiveTouch$Stone" ({ cls := "FiveTouch$Stone", name := "touches", desc := "(LFiveTouch$Stone;)Z" } : Jvm.MethodName) ({ cls := "FiveTouch$Stone", name := "touches", desc := "(LFiveTouch$Stone;)Z" } : Jvm.MethodName)) ∈ lw_all := lw_g (lw_at lw_m4 237 rfl) rfl
theorem q1043 : (Jvm.Cond.code ({ cls := "FiveTouch$Stone", name := "touches", desc := "(LFiveTouch$Stone;)Z" } : Jvm.MethodName) prog_18_method_7_code (2 : Nat) (Option.some Jvm.ClassFile.FieldType.boolean)) ∈ lw_all := lw_g (lw_at lw_m4 238 rfl) rfl
theorem q1348 : (Jvm.Cond.instanceMethod ({ cls := "FiveTouch$Stone", name := "copy", desc := "()LFiveTouch$Stone;" } : Jvm.MethodName)) ∈ lw_all := lw_g (lw_at lw_m6 63 rfl) rfl
theorem q1349 : (Jvm.Cond.selects "FiveTouch$Stone" ({ cls := "FiveTouch$Stone", name := "copy", desc := "()LFiveTouch$Stone;" } : Jvm.MethodName) ({ cls := "FiveTouch$Stone", name := "copy", desc := "()LFiveTouch$Stone;" } : Jvm.MethodName)) ∈ lw_all := lw_g (lw_at lw_m6 64 rfl) rfl
theorem q1350 : (Jvm.Cond.code ({ cls := "FiveTouch$Stone", name := "copy", desc := "()LFiveTouch$Stone;" } : Jvm.MethodName) prog_18_method_2_code (2 : Nat) (Option.some (Jvm.ClassFile.FieldType.object "FiveTouch$Stone"))) ∈ lw_all := lw_g (lw_at lw_m6 65 rfl) rfl
theorem q1351 : (Jvm.Cond.classLink "FiveTouch$Stone" (10 : Nat) "FiveTouch$Stone") ∈ lw_all := lw_g (lw_at lw_m6 66 rfl) rfl
theorem q1352 : (Jvm.Cond.methodLink "FiveTouch$Stone" (28 : Nat) ({ cls := "FiveTouch$Stone", name := "<init>", desc := "(IIIII)V" } : Jvm.MethodName)) ∈ lw_all := lw_g (lw_at lw_m6 67 rfl) rfl
theorem q1867 : (Jvm.Cond.castable "FiveTouch$Stone" "java/lang/Object") ∈ lw_tbl := lw_at lw_m8 102 rfl
theorem in_X6 : ∀ w ∈ wsX60, w ∈ lw_all := lw_in wsX60 [374, 376, 378, 380, 382] (by decide +kernel) (by decide +kernel)
/-! FiveTouch$Reader -/
set_option maxRecDepth 100000
def RX7 : String := "FiveTouch$Reader"
def TX7 : u_T := fun k => match k with
  | 0 => ("FiveTouch$Reader", "from", "I", false)
  | 1 => ("FiveTouch$Reader", "to", "I", false)
  | 2 => ("FiveTouch$Reader", "leaves", "I", false)
  | 3 => ("FiveTouch$Reader", "deep", "I", false)
  | 4 => ("FiveTouch$Reader", "piled", "I", false)
  | 5 => ("FiveTouch$Reader", "pile", "[LFiveTouch$Test;", true)
  | 6 => ("FiveTouch$Reader", "words", "[Ljava/lang/String;", true)
  | 7 => ("FiveTouch$Reader", "heads", "[Ljava/lang/String;", true)
  | _ => ("FiveTouch$Reader", "this$0", "LFiveTouch;", true)
def tyX7 : Nat → FieldType := fun k => match k with
  | 0 => .int
  | 1 => .int
  | 2 => .int
  | 3 => .int
  | 4 => .int
  | 5 => .array (.object "FiveTouch$Test")
  | 6 => .array (.object "java/lang/String")
  | 7 => .array (.object "java/lang/String")
  | _ => .object "FiveTouch"
abbrev wsX70 : List Cond := u_ws RX7 TX7 9
theorem nmX7 : ∀ a, a < 9 → ∀ b, b < 9 → a ≠ b → (TX7 a).2.1 ≠ (TX7 b).2.1 := by decide +kernel
theorem tyX7_ok : ∀ k, k < 9 → parseFieldDescriptor (TX7 k).2.2.1 = some (tyX7 k) := by decide +kernel
abbrev cX7_init : ByteArray := prog_14_method_1_code
def yX7_init : MethodName := ⟨RX7, "<init>", "(LFiveTouch;)V"⟩
def dkwX7_init_3 : List UInt8 := [189, 0, 21, 89, 3, 18, 43, 83, 89, 4, 18, 45, 83, 181, 0, 47, 177]
abbrev dktX7_init_3 : List UInt8 := dkwX7_init_3 ++ []
def dkwX7_init_2 : List UInt8 := [83, 89, 8, 18, 33, 83, 89, 16, 6, 18, 35, 83, 89, 16, 7, 18, 37, 83, 181, 0, 39, 42, 5]
abbrev dktX7_init_2 : List UInt8 := dkwX7_init_2 ++ dktX7_init_3
def dkwX7_init_1 : List UInt8 := [89, 3, 18, 23, 83, 89, 4, 18, 25, 83, 89, 5, 18, 27, 83, 89, 6, 18, 29, 83, 89, 7, 18, 31]
abbrev dktX7_init_1 : List UInt8 := dkwX7_init_1 ++ dktX7_init_2
def dkwX7_init_0 : List UInt8 := [42, 43, 181, 0, 3, 42, 183, 0, 9, 42, 16, 50, 189, 0, 15, 181, 0, 17, 42, 16, 8, 189, 0, 21]
abbrev dktX7_init_0 : List UInt8 := dkwX7_init_0 ++ dktX7_init_1
theorem dksX7_init_0 : cX7_init.data.toList.drop 0 = dktX7_init_0 := by decide +kernel
theorem dksX7_init_1 : cX7_init.data.toList.drop 24 = dktX7_init_1 := dk_seg dksX7_init_0 24 rfl rfl
theorem dksX7_init_2 : cX7_init.data.toList.drop 48 = dktX7_init_2 := dk_seg dksX7_init_1 24 rfl rfl
theorem dksX7_init_3 : cX7_init.data.toList.drop 71 = dktX7_init_3 := dk_seg dksX7_init_2 23 rfl rfl
theorem dX7_init_0 : decode cX7_init 0 = .ok (.aload_n 0, 1) := dk_42 (dk_at dksX7_init_0 0 rfl rfl)
theorem dX7_init_1 : decode cX7_init 1 = .ok (.aload_n 1, 1) := dk_43 (dk_at dksX7_init_0 1 rfl rfl)
theorem dX7_init_2 : decode cX7_init 2 = .ok (.putfield 3, 3) := dk_181 0 3 (dk_at dksX7_init_0 2 rfl rfl)
theorem dX7_init_5 : decode cX7_init 5 = .ok (.aload_n 0, 1) := dk_42 (dk_at dksX7_init_0 5 rfl rfl)
theorem dX7_init_6 : decode cX7_init 6 = .ok (.invokespecial 9, 3) := dk_183 0 9 (dk_at dksX7_init_0 6 rfl rfl)
theorem dX7_init_9 : decode cX7_init 9 = .ok (.aload_n 0, 1) := dk_42 (dk_at dksX7_init_0 9 rfl rfl)
theorem dX7_init_10 : decode cX7_init 10 = .ok (.bipush 50, 2) := dk_16 50 (dk_at dksX7_init_0 10 rfl rfl)
theorem dX7_init_12 : decode cX7_init 12 = .ok (.anewarray 15, 3) := dk_189 0 15 (dk_at dksX7_init_0 12 rfl rfl)
theorem dX7_init_15 : decode cX7_init 15 = .ok (.putfield 17, 3) := dk_181 0 17 (dk_at dksX7_init_0 15 rfl rfl)
theorem dX7_init_18 : decode cX7_init 18 = .ok (.aload_n 0, 1) := dk_42 (dk_at dksX7_init_0 18 rfl rfl)
theorem dX7_init_19 : decode cX7_init 19 = .ok (.bipush 8, 2) := dk_16 8 (dk_at dksX7_init_0 19 rfl rfl)
theorem dX7_init_21 : decode cX7_init 21 = .ok (.anewarray 21, 3) := dk_189 0 21 (dk_at dksX7_init_0 21 rfl rfl)
theorem dX7_init_24 : decode cX7_init 24 = .ok (.dup, 1) := dk_89 (dk_at dksX7_init_1 0 rfl rfl)
theorem dX7_init_25 : decode cX7_init 25 = .ok (.iconst 0, 1) := dk_3 (dk_at dksX7_init_1 1 rfl rfl)
theorem dX7_init_26 : decode cX7_init 26 = .ok (.ldc 23, 2) := dk_18 23 (dk_at dksX7_init_1 2 rfl rfl)
theorem dX7_init_28 : decode cX7_init 28 = .ok (.aastore, 1) := dk_83 (dk_at dksX7_init_1 4 rfl rfl)
theorem dX7_init_29 : decode cX7_init 29 = .ok (.dup, 1) := dk_89 (dk_at dksX7_init_1 5 rfl rfl)
theorem dX7_init_30 : decode cX7_init 30 = .ok (.iconst 1, 1) := dk_4 (dk_at dksX7_init_1 6 rfl rfl)
theorem dX7_init_31 : decode cX7_init 31 = .ok (.ldc 25, 2) := dk_18 25 (dk_at dksX7_init_1 7 rfl rfl)
theorem dX7_init_33 : decode cX7_init 33 = .ok (.aastore, 1) := dk_83 (dk_at dksX7_init_1 9 rfl rfl)
theorem dX7_init_34 : decode cX7_init 34 = .ok (.dup, 1) := dk_89 (dk_at dksX7_init_1 10 rfl rfl)
theorem dX7_init_35 : decode cX7_init 35 = .ok (.iconst 2, 1) := dk_5 (dk_at dksX7_init_1 11 rfl rfl)
theorem dX7_init_36 : decode cX7_init 36 = .ok (.ldc 27, 2) := dk_18 27 (dk_at dksX7_init_1 12 rfl rfl)
theorem dX7_init_38 : decode cX7_init 38 = .ok (.aastore, 1) := dk_83 (dk_at dksX7_init_1 14 rfl rfl)
theorem dX7_init_39 : decode cX7_init 39 = .ok (.dup, 1) := dk_89 (dk_at dksX7_init_1 15 rfl rfl)
theorem dX7_init_40 : decode cX7_init 40 = .ok (.iconst 3, 1) := dk_6 (dk_at dksX7_init_1 16 rfl rfl)
theorem dX7_init_41 : decode cX7_init 41 = .ok (.ldc 29, 2) := dk_18 29 (dk_at dksX7_init_1 17 rfl rfl)
theorem dX7_init_43 : decode cX7_init 43 = .ok (.aastore, 1) := dk_83 (dk_at dksX7_init_1 19 rfl rfl)
theorem dX7_init_44 : decode cX7_init 44 = .ok (.dup, 1) := dk_89 (dk_at dksX7_init_1 20 rfl rfl)
theorem dX7_init_45 : decode cX7_init 45 = .ok (.iconst 4, 1) := dk_7 (dk_at dksX7_init_1 21 rfl rfl)
theorem dX7_init_46 : decode cX7_init 46 = .ok (.ldc 31, 2) := dk_18 31 (dk_at dksX7_init_1 22 rfl rfl)
theorem dX7_init_48 : decode cX7_init 48 = .ok (.aastore, 1) := dk_83 (dk_at dksX7_init_2 0 rfl rfl)
theorem dX7_init_49 : decode cX7_init 49 = .ok (.dup, 1) := dk_89 (dk_at dksX7_init_2 1 rfl rfl)
theorem dX7_init_50 : decode cX7_init 50 = .ok (.iconst 5, 1) := dk_8 (dk_at dksX7_init_2 2 rfl rfl)
theorem dX7_init_51 : decode cX7_init 51 = .ok (.ldc 33, 2) := dk_18 33 (dk_at dksX7_init_2 3 rfl rfl)
theorem dX7_init_53 : decode cX7_init 53 = .ok (.aastore, 1) := dk_83 (dk_at dksX7_init_2 5 rfl rfl)
theorem dX7_init_54 : decode cX7_init 54 = .ok (.dup, 1) := dk_89 (dk_at dksX7_init_2 6 rfl rfl)
theorem dX7_init_55 : decode cX7_init 55 = .ok (.bipush 6, 2) := dk_16 6 (dk_at dksX7_init_2 7 rfl rfl)
theorem dX7_init_57 : decode cX7_init 57 = .ok (.ldc 35, 2) := dk_18 35 (dk_at dksX7_init_2 9 rfl rfl)
theorem dX7_init_59 : decode cX7_init 59 = .ok (.aastore, 1) := dk_83 (dk_at dksX7_init_2 11 rfl rfl)
theorem dX7_init_60 : decode cX7_init 60 = .ok (.dup, 1) := dk_89 (dk_at dksX7_init_2 12 rfl rfl)
theorem dX7_init_61 : decode cX7_init 61 = .ok (.bipush 7, 2) := dk_16 7 (dk_at dksX7_init_2 13 rfl rfl)
theorem dX7_init_63 : decode cX7_init 63 = .ok (.ldc 37, 2) := dk_18 37 (dk_at dksX7_init_2 15 rfl rfl)
theorem dX7_init_65 : decode cX7_init 65 = .ok (.aastore, 1) := dk_83 (dk_at dksX7_init_2 17 rfl rfl)
theorem dX7_init_66 : decode cX7_init 66 = .ok (.putfield 39, 3) := dk_181 0 39 (dk_at dksX7_init_2 18 rfl rfl)
theorem dX7_init_69 : decode cX7_init 69 = .ok (.aload_n 0, 1) := dk_42 (dk_at dksX7_init_2 21 rfl rfl)
theorem dX7_init_70 : decode cX7_init 70 = .ok (.iconst 2, 1) := dk_5 (dk_at dksX7_init_2 22 rfl rfl)
theorem dX7_init_71 : decode cX7_init 71 = .ok (.anewarray 21, 3) := dk_189 0 21 (dk_at dksX7_init_3 0 rfl rfl)
theorem dX7_init_74 : decode cX7_init 74 = .ok (.dup, 1) := dk_89 (dk_at dksX7_init_3 3 rfl rfl)
theorem dX7_init_75 : decode cX7_init 75 = .ok (.iconst 0, 1) := dk_3 (dk_at dksX7_init_3 4 rfl rfl)
theorem dX7_init_76 : decode cX7_init 76 = .ok (.ldc 43, 2) := dk_18 43 (dk_at dksX7_init_3 5 rfl rfl)
theorem dX7_init_78 : decode cX7_init 78 = .ok (.aastore, 1) := dk_83 (dk_at dksX7_init_3 7 rfl rfl)
theorem dX7_init_79 : decode cX7_init 79 = .ok (.dup, 1) := dk_89 (dk_at dksX7_init_3 8 rfl rfl)
theorem dX7_init_80 : decode cX7_init 80 = .ok (.iconst 1, 1) := dk_4 (dk_at dksX7_init_3 9 rfl rfl)
theorem dX7_init_81 : decode cX7_init 81 = .ok (.ldc 45, 2) := dk_18 45 (dk_at dksX7_init_3 10 rfl rfl)
theorem dX7_init_83 : decode cX7_init 83 = .ok (.aastore, 1) := dk_83 (dk_at dksX7_init_3 12 rfl rfl)
theorem dX7_init_84 : decode cX7_init 84 = .ok (.putfield 47, 3) := dk_181 0 47 (dk_at dksX7_init_3 13 rfl rfl)
theorem dX7_init_87 : decode cX7_init 87 = .ok (.return_, 1) := dk_177 (dk_at dksX7_init_3 16 rfl rfl)
abbrev cX7_read : ByteArray := prog_14_method_2_code
def yX7_read : MethodName := ⟨RX7, "read", "()LFiveTouch$Text;"⟩
def dkwX7_read_4 : List UInt8 := [45, 3, 28, 184, 0, 88, 187, 0, 94, 89, 45, 183, 0, 96, 176]
abbrev dktX7_read_4 : List UInt8 := dkwX7_read_4 ++ []
def dkwX7_read_3 : List UInt8 := [180, 0, 3, 180, 0, 85, 160, 0, 7, 4, 167, 0, 4, 3, 182, 0, 68, 28, 189, 0, 50, 78, 43, 3]
abbrev dktX7_read_3 : List UInt8 := dkwX7_read_3 ++ dktX7_read_4
def dkwX7_read_2 : List UInt8 := [28, 42, 182, 0, 72, 83, 132, 2, 1, 42, 18, 76, 182, 0, 78, 154, 255, 225, 42, 42, 180, 0, 82, 42]
abbrev dktX7_read_2 : List UInt8 := dkwX7_read_2 ++ dktX7_read_3
def dkwX7_read_1 : List UInt8 := [3, 181, 0, 62, 42, 182, 0, 65, 42, 28, 16, 12, 162, 0, 7, 4, 167, 0, 4, 3, 182, 0, 68, 43]
abbrev dktX7_read_1 : List UInt8 := dkwX7_read_1 ++ dktX7_read_2
def dkwX7_read_0 : List UInt8 := [16, 12, 189, 0, 50, 76, 3, 61, 42, 3, 181, 0, 52, 42, 3, 181, 0, 56, 42, 3, 181, 0, 59, 42]
abbrev dktX7_read_0 : List UInt8 := dkwX7_read_0 ++ dktX7_read_1
theorem dksX7_read_0 : cX7_read.data.toList.drop 0 = dktX7_read_0 := by decide +kernel
theorem dksX7_read_1 : cX7_read.data.toList.drop 24 = dktX7_read_1 := dk_seg dksX7_read_0 24 rfl rfl
theorem dksX7_read_2 : cX7_read.data.toList.drop 48 = dktX7_read_2 := dk_seg dksX7_read_1 24 rfl rfl
theorem dksX7_read_3 : cX7_read.data.toList.drop 72 = dktX7_read_3 := dk_seg dksX7_read_2 24 rfl rfl
theorem dksX7_read_4 : cX7_read.data.toList.drop 96 = dktX7_read_4 := dk_seg dksX7_read_3 24 rfl rfl
theorem dX7_read_0 : decode cX7_read 0 = .ok (.bipush 12, 2) := dk_16 12 (dk_at dksX7_read_0 0 rfl rfl)
theorem dX7_read_2 : decode cX7_read 2 = .ok (.anewarray 50, 3) := dk_189 0 50 (dk_at dksX7_read_0 2 rfl rfl)
theorem dX7_read_5 : decode cX7_read 5 = .ok (.astore_n 1, 1) := dk_76 (dk_at dksX7_read_0 5 rfl rfl)
theorem dX7_read_6 : decode cX7_read 6 = .ok (.iconst 0, 1) := dk_3 (dk_at dksX7_read_0 6 rfl rfl)
theorem dX7_read_7 : decode cX7_read 7 = .ok (.istore_n 2, 1) := dk_61 (dk_at dksX7_read_0 7 rfl rfl)
theorem dX7_read_8 : decode cX7_read 8 = .ok (.aload_n 0, 1) := dk_42 (dk_at dksX7_read_0 8 rfl rfl)
theorem dX7_read_9 : decode cX7_read 9 = .ok (.iconst 0, 1) := dk_3 (dk_at dksX7_read_0 9 rfl rfl)
theorem dX7_read_10 : decode cX7_read 10 = .ok (.putfield 52, 3) := dk_181 0 52 (dk_at dksX7_read_0 10 rfl rfl)
theorem dX7_read_13 : decode cX7_read 13 = .ok (.aload_n 0, 1) := dk_42 (dk_at dksX7_read_0 13 rfl rfl)
theorem dX7_read_14 : decode cX7_read 14 = .ok (.iconst 0, 1) := dk_3 (dk_at dksX7_read_0 14 rfl rfl)
theorem dX7_read_15 : decode cX7_read 15 = .ok (.putfield 56, 3) := dk_181 0 56 (dk_at dksX7_read_0 15 rfl rfl)
theorem dX7_read_18 : decode cX7_read 18 = .ok (.aload_n 0, 1) := dk_42 (dk_at dksX7_read_0 18 rfl rfl)
theorem dX7_read_19 : decode cX7_read 19 = .ok (.iconst 0, 1) := dk_3 (dk_at dksX7_read_0 19 rfl rfl)
theorem dX7_read_20 : decode cX7_read 20 = .ok (.putfield 59, 3) := dk_181 0 59 (dk_at dksX7_read_0 20 rfl rfl)
theorem dX7_read_23 : decode cX7_read 23 = .ok (.aload_n 0, 1) := dk_42 (dk_at dksX7_read_0 23 rfl rfl)
theorem dX7_read_24 : decode cX7_read 24 = .ok (.iconst 0, 1) := dk_3 (dk_at dksX7_read_1 0 rfl rfl)
theorem dX7_read_25 : decode cX7_read 25 = .ok (.putfield 62, 3) := dk_181 0 62 (dk_at dksX7_read_1 1 rfl rfl)
theorem dX7_read_28 : decode cX7_read 28 = .ok (.aload_n 0, 1) := dk_42 (dk_at dksX7_read_1 4 rfl rfl)
theorem dX7_read_29 : decode cX7_read 29 = .ok (.invokevirtual 65, 3) := dk_182 0 65 (dk_at dksX7_read_1 5 rfl rfl)
theorem dX7_read_32 : decode cX7_read 32 = .ok (.aload_n 0, 1) := dk_42 (dk_at dksX7_read_1 8 rfl rfl)
theorem dX7_read_33 : decode cX7_read 33 = .ok (.iload_n 2, 1) := dk_28 (dk_at dksX7_read_1 9 rfl rfl)
theorem dX7_read_34 : decode cX7_read 34 = .ok (.bipush 12, 2) := dk_16 12 (dk_at dksX7_read_1 10 rfl rfl)
theorem dX7_read_36 : decode cX7_read 36 = .ok (.if_icmp .ge 7, 3) := dk_162 0 7 (dk_at dksX7_read_1 12 rfl rfl)
theorem dX7_read_39 : decode cX7_read 39 = .ok (.iconst 1, 1) := dk_4 (dk_at dksX7_read_1 15 rfl rfl)
theorem dX7_read_40 : decode cX7_read 40 = .ok (.goto 4, 3) := dk_167 0 4 (dk_at dksX7_read_1 16 rfl rfl)
theorem dX7_read_43 : decode cX7_read 43 = .ok (.iconst 0, 1) := dk_3 (dk_at dksX7_read_1 19 rfl rfl)
theorem dX7_read_44 : decode cX7_read 44 = .ok (.invokevirtual 68, 3) := dk_182 0 68 (dk_at dksX7_read_1 20 rfl rfl)
theorem dX7_read_47 : decode cX7_read 47 = .ok (.aload_n 1, 1) := dk_43 (dk_at dksX7_read_1 23 rfl rfl)
theorem dX7_read_48 : decode cX7_read 48 = .ok (.iload_n 2, 1) := dk_28 (dk_at dksX7_read_2 0 rfl rfl)
theorem dX7_read_49 : decode cX7_read 49 = .ok (.aload_n 0, 1) := dk_42 (dk_at dksX7_read_2 1 rfl rfl)
theorem dX7_read_50 : decode cX7_read 50 = .ok (.invokevirtual 72, 3) := dk_182 0 72 (dk_at dksX7_read_2 2 rfl rfl)
theorem dX7_read_53 : decode cX7_read 53 = .ok (.aastore, 1) := dk_83 (dk_at dksX7_read_2 5 rfl rfl)
theorem dX7_read_54 : decode cX7_read 54 = .ok (.iinc 2 1, 3) := dk_132 2 1 (dk_at dksX7_read_2 6 rfl rfl)
theorem dX7_read_57 : decode cX7_read 57 = .ok (.aload_n 0, 1) := dk_42 (dk_at dksX7_read_2 9 rfl rfl)
theorem dX7_read_58 : decode cX7_read 58 = .ok (.ldc 76, 2) := dk_18 76 (dk_at dksX7_read_2 10 rfl rfl)
theorem dX7_read_60 : decode cX7_read 60 = .ok (.invokevirtual 78, 3) := dk_182 0 78 (dk_at dksX7_read_2 12 rfl rfl)
theorem dX7_read_63 : decode cX7_read 63 = .ok (.ifCond .ne (-31), 3) := dk_154 255 225 (dk_at dksX7_read_2 15 rfl rfl)
theorem dX7_read_66 : decode cX7_read 66 = .ok (.aload_n 0, 1) := dk_42 (dk_at dksX7_read_2 18 rfl rfl)
theorem dX7_read_67 : decode cX7_read 67 = .ok (.aload_n 0, 1) := dk_42 (dk_at dksX7_read_2 19 rfl rfl)
theorem dX7_read_68 : decode cX7_read 68 = .ok (.getfield 82, 3) := dk_180 0 82 (dk_at dksX7_read_2 20 rfl rfl)
theorem dX7_read_71 : decode cX7_read 71 = .ok (.aload_n 0, 1) := dk_42 (dk_at dksX7_read_2 23 rfl rfl)
theorem dX7_read_72 : decode cX7_read 72 = .ok (.getfield 3, 3) := dk_180 0 3 (dk_at dksX7_read_3 0 rfl rfl)
theorem dX7_read_75 : decode cX7_read 75 = .ok (.getfield 85, 3) := dk_180 0 85 (dk_at dksX7_read_3 3 rfl rfl)
theorem dX7_read_78 : decode cX7_read 78 = .ok (.if_icmp .ne 7, 3) := dk_160 0 7 (dk_at dksX7_read_3 6 rfl rfl)
theorem dX7_read_81 : decode cX7_read 81 = .ok (.iconst 1, 1) := dk_4 (dk_at dksX7_read_3 9 rfl rfl)
theorem dX7_read_82 : decode cX7_read 82 = .ok (.goto 4, 3) := dk_167 0 4 (dk_at dksX7_read_3 10 rfl rfl)
theorem dX7_read_85 : decode cX7_read 85 = .ok (.iconst 0, 1) := dk_3 (dk_at dksX7_read_3 13 rfl rfl)
theorem dX7_read_86 : decode cX7_read 86 = .ok (.invokevirtual 68, 3) := dk_182 0 68 (dk_at dksX7_read_3 14 rfl rfl)
theorem dX7_read_89 : decode cX7_read 89 = .ok (.iload_n 2, 1) := dk_28 (dk_at dksX7_read_3 17 rfl rfl)
theorem dX7_read_90 : decode cX7_read 90 = .ok (.anewarray 50, 3) := dk_189 0 50 (dk_at dksX7_read_3 18 rfl rfl)
theorem dX7_read_93 : decode cX7_read 93 = .ok (.astore_n 3, 1) := dk_78 (dk_at dksX7_read_3 21 rfl rfl)
theorem dX7_read_94 : decode cX7_read 94 = .ok (.aload_n 1, 1) := dk_43 (dk_at dksX7_read_3 22 rfl rfl)
theorem dX7_read_95 : decode cX7_read 95 = .ok (.iconst 0, 1) := dk_3 (dk_at dksX7_read_3 23 rfl rfl)
theorem dX7_read_96 : decode cX7_read 96 = .ok (.aload_n 3, 1) := dk_45 (dk_at dksX7_read_4 0 rfl rfl)
theorem dX7_read_97 : decode cX7_read 97 = .ok (.iconst 0, 1) := dk_3 (dk_at dksX7_read_4 1 rfl rfl)
theorem dX7_read_98 : decode cX7_read 98 = .ok (.iload_n 2, 1) := dk_28 (dk_at dksX7_read_4 2 rfl rfl)
theorem dX7_read_99 : decode cX7_read 99 = .ok (.invokestatic 88, 3) := dk_184 0 88 (dk_at dksX7_read_4 3 rfl rfl)
theorem dX7_read_102 : decode cX7_read 102 = .ok (.new 94, 3) := dk_187 0 94 (dk_at dksX7_read_4 6 rfl rfl)
theorem dX7_read_105 : decode cX7_read 105 = .ok (.dup, 1) := dk_89 (dk_at dksX7_read_4 9 rfl rfl)
theorem dX7_read_106 : decode cX7_read 106 = .ok (.aload_n 3, 1) := dk_45 (dk_at dksX7_read_4 10 rfl rfl)
theorem dX7_read_107 : decode cX7_read 107 = .ok (.invokespecial 96, 3) := dk_183 0 96 (dk_at dksX7_read_4 11 rfl rfl)
theorem dX7_read_110 : decode cX7_read 110 = .ok (.areturn, 1) := dk_176 (dk_at dksX7_read_4 14 rfl rfl)
abbrev cX7_next : ByteArray := prog_14_method_3_code
def yX7_next : MethodName := ⟨RX7, "next", "()V"⟩
def dkwX7_next_8 : List UInt8 := [181, 0, 52, 167, 255, 188, 177]
abbrev dktX7_next_8 : List UInt8 := dkwX7_next_8 ++ []
def dkwX7_next_7 : List UInt8 := [180, 0, 3, 180, 0, 99, 42, 180, 0, 52, 51, 184, 0, 107, 153, 0, 16, 42, 89, 180, 0, 52, 4, 96]
abbrev dktX7_next_7 : List UInt8 := dkwX7_next_7 ++ dktX7_next_8
def dkwX7_next_6 : List UInt8 := [180, 0, 3, 180, 0, 99, 42, 180, 0, 52, 51, 184, 0, 103, 154, 0, 25, 28, 153, 0, 34, 42]
abbrev dktX7_next_6 : List UInt8 := dkwX7_next_6 ++ dktX7_next_7
def dkwX7_next_5 : List UInt8 := [181, 0, 52, 42, 180, 0, 52, 42, 180, 0, 3, 180, 0, 85, 162, 0, 60, 27, 153, 0, 21, 42]
abbrev dktX7_next_5 : List UInt8 := dkwX7_next_5 ++ dktX7_next_6
def dkwX7_next_4 : List UInt8 := [180, 0, 3, 180, 0, 99, 42, 180, 0, 52, 51, 184, 0, 107, 61, 42, 89, 180, 0, 52, 4, 96]
abbrev dktX7_next_4 : List UInt8 := dkwX7_next_4 ++ dktX7_next_5
def dkwX7_next_3 : List UInt8 := [180, 0, 85, 160, 0, 4, 177, 42, 180, 0, 3, 180, 0, 99, 42, 180, 0, 52, 51, 184, 0, 103, 60, 42]
abbrev dktX7_next_3 : List UInt8 := dkwX7_next_3 ++ dktX7_next_4
def dkwX7_next_2 : List UInt8 := [181, 0, 82, 167, 255, 215, 42, 42, 180, 0, 82, 181, 0, 52, 42, 180, 0, 52, 42, 180, 0, 3]
abbrev dktX7_next_2 : List UInt8 := dkwX7_next_2 ++ dktX7_next_3
def dkwX7_next_1 : List UInt8 := [180, 0, 3, 180, 0, 99, 42, 180, 0, 82, 51, 16, 32, 160, 0, 16, 42, 89, 180, 0, 82, 4, 96]
abbrev dktX7_next_1 : List UInt8 := dkwX7_next_1 ++ dktX7_next_2
def dkwX7_next_0 : List UInt8 := [42, 42, 180, 0, 52, 181, 0, 82, 42, 180, 0, 82, 42, 180, 0, 3, 180, 0, 85, 162, 0, 33, 42]
abbrev dktX7_next_0 : List UInt8 := dkwX7_next_0 ++ dktX7_next_1
theorem dksX7_next_0 : cX7_next.data.toList.drop 0 = dktX7_next_0 := by decide +kernel
theorem dksX7_next_1 : cX7_next.data.toList.drop 23 = dktX7_next_1 := dk_seg dksX7_next_0 23 rfl rfl
theorem dksX7_next_2 : cX7_next.data.toList.drop 46 = dktX7_next_2 := dk_seg dksX7_next_1 23 rfl rfl
theorem dksX7_next_3 : cX7_next.data.toList.drop 68 = dktX7_next_3 := dk_seg dksX7_next_2 22 rfl rfl
theorem dksX7_next_4 : cX7_next.data.toList.drop 92 = dktX7_next_4 := dk_seg dksX7_next_3 24 rfl rfl
theorem dksX7_next_5 : cX7_next.data.toList.drop 114 = dktX7_next_5 := dk_seg dksX7_next_4 22 rfl rfl
theorem dksX7_next_6 : cX7_next.data.toList.drop 136 = dktX7_next_6 := dk_seg dksX7_next_5 22 rfl rfl
theorem dksX7_next_7 : cX7_next.data.toList.drop 158 = dktX7_next_7 := dk_seg dksX7_next_6 22 rfl rfl
theorem dksX7_next_8 : cX7_next.data.toList.drop 182 = dktX7_next_8 := dk_seg dksX7_next_7 24 rfl rfl
theorem dX7_next_0 : decode cX7_next 0 = .ok (.aload_n 0, 1) := dk_42 (dk_at dksX7_next_0 0 rfl rfl)
theorem dX7_next_1 : decode cX7_next 1 = .ok (.aload_n 0, 1) := dk_42 (dk_at dksX7_next_0 1 rfl rfl)
theorem dX7_next_2 : decode cX7_next 2 = .ok (.getfield 52, 3) := dk_180 0 52 (dk_at dksX7_next_0 2 rfl rfl)
theorem dX7_next_5 : decode cX7_next 5 = .ok (.putfield 82, 3) := dk_181 0 82 (dk_at dksX7_next_0 5 rfl rfl)
theorem dX7_next_8 : decode cX7_next 8 = .ok (.aload_n 0, 1) := dk_42 (dk_at dksX7_next_0 8 rfl rfl)
theorem dX7_next_9 : decode cX7_next 9 = .ok (.getfield 82, 3) := dk_180 0 82 (dk_at dksX7_next_0 9 rfl rfl)
theorem dX7_next_12 : decode cX7_next 12 = .ok (.aload_n 0, 1) := dk_42 (dk_at dksX7_next_0 12 rfl rfl)
theorem dX7_next_13 : decode cX7_next 13 = .ok (.getfield 3, 3) := dk_180 0 3 (dk_at dksX7_next_0 13 rfl rfl)
theorem dX7_next_16 : decode cX7_next 16 = .ok (.getfield 85, 3) := dk_180 0 85 (dk_at dksX7_next_0 16 rfl rfl)
theorem dX7_next_19 : decode cX7_next 19 = .ok (.if_icmp .ge 33, 3) := dk_162 0 33 (dk_at dksX7_next_0 19 rfl rfl)
theorem dX7_next_22 : decode cX7_next 22 = .ok (.aload_n 0, 1) := dk_42 (dk_at dksX7_next_0 22 rfl rfl)
theorem dX7_next_23 : decode cX7_next 23 = .ok (.getfield 3, 3) := dk_180 0 3 (dk_at dksX7_next_1 0 rfl rfl)
theorem dX7_next_26 : decode cX7_next 26 = .ok (.getfield 99, 3) := dk_180 0 99 (dk_at dksX7_next_1 3 rfl rfl)
theorem dX7_next_29 : decode cX7_next 29 = .ok (.aload_n 0, 1) := dk_42 (dk_at dksX7_next_1 6 rfl rfl)
theorem dX7_next_30 : decode cX7_next 30 = .ok (.getfield 82, 3) := dk_180 0 82 (dk_at dksX7_next_1 7 rfl rfl)
theorem dX7_next_33 : decode cX7_next 33 = .ok (.baload, 1) := dk_51 (dk_at dksX7_next_1 10 rfl rfl)
theorem dX7_next_34 : decode cX7_next 34 = .ok (.bipush 32, 2) := dk_16 32 (dk_at dksX7_next_1 11 rfl rfl)
theorem dX7_next_36 : decode cX7_next 36 = .ok (.if_icmp .ne 16, 3) := dk_160 0 16 (dk_at dksX7_next_1 13 rfl rfl)
theorem dX7_next_39 : decode cX7_next 39 = .ok (.aload_n 0, 1) := dk_42 (dk_at dksX7_next_1 16 rfl rfl)
theorem dX7_next_40 : decode cX7_next 40 = .ok (.dup, 1) := dk_89 (dk_at dksX7_next_1 17 rfl rfl)
theorem dX7_next_41 : decode cX7_next 41 = .ok (.getfield 82, 3) := dk_180 0 82 (dk_at dksX7_next_1 18 rfl rfl)
theorem dX7_next_44 : decode cX7_next 44 = .ok (.iconst 1, 1) := dk_4 (dk_at dksX7_next_1 21 rfl rfl)
theorem dX7_next_45 : decode cX7_next 45 = .ok (.iadd, 1) := dk_96 (dk_at dksX7_next_1 22 rfl rfl)
theorem dX7_next_46 : decode cX7_next 46 = .ok (.putfield 82, 3) := dk_181 0 82 (dk_at dksX7_next_2 0 rfl rfl)
theorem dX7_next_49 : decode cX7_next 49 = .ok (.goto (-41), 3) := dk_167 255 215 (dk_at dksX7_next_2 3 rfl rfl)
theorem dX7_next_52 : decode cX7_next 52 = .ok (.aload_n 0, 1) := dk_42 (dk_at dksX7_next_2 6 rfl rfl)
theorem dX7_next_53 : decode cX7_next 53 = .ok (.aload_n 0, 1) := dk_42 (dk_at dksX7_next_2 7 rfl rfl)
theorem dX7_next_54 : decode cX7_next 54 = .ok (.getfield 82, 3) := dk_180 0 82 (dk_at dksX7_next_2 8 rfl rfl)
theorem dX7_next_57 : decode cX7_next 57 = .ok (.putfield 52, 3) := dk_181 0 52 (dk_at dksX7_next_2 11 rfl rfl)
theorem dX7_next_60 : decode cX7_next 60 = .ok (.aload_n 0, 1) := dk_42 (dk_at dksX7_next_2 14 rfl rfl)
theorem dX7_next_61 : decode cX7_next 61 = .ok (.getfield 52, 3) := dk_180 0 52 (dk_at dksX7_next_2 15 rfl rfl)
theorem dX7_next_64 : decode cX7_next 64 = .ok (.aload_n 0, 1) := dk_42 (dk_at dksX7_next_2 18 rfl rfl)
theorem dX7_next_65 : decode cX7_next 65 = .ok (.getfield 3, 3) := dk_180 0 3 (dk_at dksX7_next_2 19 rfl rfl)
theorem dX7_next_68 : decode cX7_next 68 = .ok (.getfield 85, 3) := dk_180 0 85 (dk_at dksX7_next_3 0 rfl rfl)
theorem dX7_next_71 : decode cX7_next 71 = .ok (.if_icmp .ne 4, 3) := dk_160 0 4 (dk_at dksX7_next_3 3 rfl rfl)
theorem dX7_next_74 : decode cX7_next 74 = .ok (.return_, 1) := dk_177 (dk_at dksX7_next_3 6 rfl rfl)
theorem dX7_next_75 : decode cX7_next 75 = .ok (.aload_n 0, 1) := dk_42 (dk_at dksX7_next_3 7 rfl rfl)
theorem dX7_next_76 : decode cX7_next 76 = .ok (.getfield 3, 3) := dk_180 0 3 (dk_at dksX7_next_3 8 rfl rfl)
theorem dX7_next_79 : decode cX7_next 79 = .ok (.getfield 99, 3) := dk_180 0 99 (dk_at dksX7_next_3 11 rfl rfl)
theorem dX7_next_82 : decode cX7_next 82 = .ok (.aload_n 0, 1) := dk_42 (dk_at dksX7_next_3 14 rfl rfl)
theorem dX7_next_83 : decode cX7_next 83 = .ok (.getfield 52, 3) := dk_180 0 52 (dk_at dksX7_next_3 15 rfl rfl)
theorem dX7_next_86 : decode cX7_next 86 = .ok (.baload, 1) := dk_51 (dk_at dksX7_next_3 18 rfl rfl)
theorem dX7_next_87 : decode cX7_next 87 = .ok (.invokestatic 103, 3) := dk_184 0 103 (dk_at dksX7_next_3 19 rfl rfl)
theorem dX7_next_90 : decode cX7_next 90 = .ok (.istore_n 1, 1) := dk_60 (dk_at dksX7_next_3 22 rfl rfl)
theorem dX7_next_91 : decode cX7_next 91 = .ok (.aload_n 0, 1) := dk_42 (dk_at dksX7_next_3 23 rfl rfl)
theorem dX7_next_92 : decode cX7_next 92 = .ok (.getfield 3, 3) := dk_180 0 3 (dk_at dksX7_next_4 0 rfl rfl)
theorem dX7_next_95 : decode cX7_next 95 = .ok (.getfield 99, 3) := dk_180 0 99 (dk_at dksX7_next_4 3 rfl rfl)
theorem dX7_next_98 : decode cX7_next 98 = .ok (.aload_n 0, 1) := dk_42 (dk_at dksX7_next_4 6 rfl rfl)
theorem dX7_next_99 : decode cX7_next 99 = .ok (.getfield 52, 3) := dk_180 0 52 (dk_at dksX7_next_4 7 rfl rfl)
theorem dX7_next_102 : decode cX7_next 102 = .ok (.baload, 1) := dk_51 (dk_at dksX7_next_4 10 rfl rfl)
theorem dX7_next_103 : decode cX7_next 103 = .ok (.invokestatic 107, 3) := dk_184 0 107 (dk_at dksX7_next_4 11 rfl rfl)
theorem dX7_next_106 : decode cX7_next 106 = .ok (.istore_n 2, 1) := dk_61 (dk_at dksX7_next_4 14 rfl rfl)
theorem dX7_next_107 : decode cX7_next 107 = .ok (.aload_n 0, 1) := dk_42 (dk_at dksX7_next_4 15 rfl rfl)
theorem dX7_next_108 : decode cX7_next 108 = .ok (.dup, 1) := dk_89 (dk_at dksX7_next_4 16 rfl rfl)
theorem dX7_next_109 : decode cX7_next 109 = .ok (.getfield 52, 3) := dk_180 0 52 (dk_at dksX7_next_4 17 rfl rfl)
theorem dX7_next_112 : decode cX7_next 112 = .ok (.iconst 1, 1) := dk_4 (dk_at dksX7_next_4 20 rfl rfl)
theorem dX7_next_113 : decode cX7_next 113 = .ok (.iadd, 1) := dk_96 (dk_at dksX7_next_4 21 rfl rfl)
theorem dX7_next_114 : decode cX7_next 114 = .ok (.putfield 52, 3) := dk_181 0 52 (dk_at dksX7_next_5 0 rfl rfl)
theorem dX7_next_117 : decode cX7_next 117 = .ok (.aload_n 0, 1) := dk_42 (dk_at dksX7_next_5 3 rfl rfl)
theorem dX7_next_118 : decode cX7_next 118 = .ok (.getfield 52, 3) := dk_180 0 52 (dk_at dksX7_next_5 4 rfl rfl)
theorem dX7_next_121 : decode cX7_next 121 = .ok (.aload_n 0, 1) := dk_42 (dk_at dksX7_next_5 7 rfl rfl)
theorem dX7_next_122 : decode cX7_next 122 = .ok (.getfield 3, 3) := dk_180 0 3 (dk_at dksX7_next_5 8 rfl rfl)
theorem dX7_next_125 : decode cX7_next 125 = .ok (.getfield 85, 3) := dk_180 0 85 (dk_at dksX7_next_5 11 rfl rfl)
theorem dX7_next_128 : decode cX7_next 128 = .ok (.if_icmp .ge 60, 3) := dk_162 0 60 (dk_at dksX7_next_5 14 rfl rfl)
theorem dX7_next_131 : decode cX7_next 131 = .ok (.iload_n 1, 1) := dk_27 (dk_at dksX7_next_5 17 rfl rfl)
theorem dX7_next_132 : decode cX7_next 132 = .ok (.ifCond .eq 21, 3) := dk_153 0 21 (dk_at dksX7_next_5 18 rfl rfl)
theorem dX7_next_135 : decode cX7_next 135 = .ok (.aload_n 0, 1) := dk_42 (dk_at dksX7_next_5 21 rfl rfl)
theorem dX7_next_136 : decode cX7_next 136 = .ok (.getfield 3, 3) := dk_180 0 3 (dk_at dksX7_next_6 0 rfl rfl)
theorem dX7_next_139 : decode cX7_next 139 = .ok (.getfield 99, 3) := dk_180 0 99 (dk_at dksX7_next_6 3 rfl rfl)
theorem dX7_next_142 : decode cX7_next 142 = .ok (.aload_n 0, 1) := dk_42 (dk_at dksX7_next_6 6 rfl rfl)
theorem dX7_next_143 : decode cX7_next 143 = .ok (.getfield 52, 3) := dk_180 0 52 (dk_at dksX7_next_6 7 rfl rfl)
theorem dX7_next_146 : decode cX7_next 146 = .ok (.baload, 1) := dk_51 (dk_at dksX7_next_6 10 rfl rfl)
theorem dX7_next_147 : decode cX7_next 147 = .ok (.invokestatic 103, 3) := dk_184 0 103 (dk_at dksX7_next_6 11 rfl rfl)
theorem dX7_next_150 : decode cX7_next 150 = .ok (.ifCond .ne 25, 3) := dk_154 0 25 (dk_at dksX7_next_6 14 rfl rfl)
theorem dX7_next_153 : decode cX7_next 153 = .ok (.iload_n 2, 1) := dk_28 (dk_at dksX7_next_6 17 rfl rfl)
theorem dX7_next_154 : decode cX7_next 154 = .ok (.ifCond .eq 34, 3) := dk_153 0 34 (dk_at dksX7_next_6 18 rfl rfl)
theorem dX7_next_157 : decode cX7_next 157 = .ok (.aload_n 0, 1) := dk_42 (dk_at dksX7_next_6 21 rfl rfl)
theorem dX7_next_158 : decode cX7_next 158 = .ok (.getfield 3, 3) := dk_180 0 3 (dk_at dksX7_next_7 0 rfl rfl)
theorem dX7_next_161 : decode cX7_next 161 = .ok (.getfield 99, 3) := dk_180 0 99 (dk_at dksX7_next_7 3 rfl rfl)
theorem dX7_next_164 : decode cX7_next 164 = .ok (.aload_n 0, 1) := dk_42 (dk_at dksX7_next_7 6 rfl rfl)
theorem dX7_next_165 : decode cX7_next 165 = .ok (.getfield 52, 3) := dk_180 0 52 (dk_at dksX7_next_7 7 rfl rfl)
theorem dX7_next_168 : decode cX7_next 168 = .ok (.baload, 1) := dk_51 (dk_at dksX7_next_7 10 rfl rfl)
theorem dX7_next_169 : decode cX7_next 169 = .ok (.invokestatic 107, 3) := dk_184 0 107 (dk_at dksX7_next_7 11 rfl rfl)
theorem dX7_next_172 : decode cX7_next 172 = .ok (.ifCond .eq 16, 3) := dk_153 0 16 (dk_at dksX7_next_7 14 rfl rfl)
theorem dX7_next_175 : decode cX7_next 175 = .ok (.aload_n 0, 1) := dk_42 (dk_at dksX7_next_7 17 rfl rfl)
theorem dX7_next_176 : decode cX7_next 176 = .ok (.dup, 1) := dk_89 (dk_at dksX7_next_7 18 rfl rfl)
theorem dX7_next_177 : decode cX7_next 177 = .ok (.getfield 52, 3) := dk_180 0 52 (dk_at dksX7_next_7 19 rfl rfl)
theorem dX7_next_180 : decode cX7_next 180 = .ok (.iconst 1, 1) := dk_4 (dk_at dksX7_next_7 22 rfl rfl)
theorem dX7_next_181 : decode cX7_next 181 = .ok (.iadd, 1) := dk_96 (dk_at dksX7_next_7 23 rfl rfl)
theorem dX7_next_182 : decode cX7_next 182 = .ok (.putfield 52, 3) := dk_181 0 52 (dk_at dksX7_next_8 0 rfl rfl)
theorem dX7_next_185 : decode cX7_next 185 = .ok (.goto (-68), 3) := dk_167 255 188 (dk_at dksX7_next_8 3 rfl rfl)
theorem dX7_next_188 : decode cX7_next 188 = .ok (.return_, 1) := dk_177 (dk_at dksX7_next_8 6 rfl rfl)
abbrev cX7_must : ByteArray := prog_14_method_7_code
def yX7_must : MethodName := ⟨RX7, "must", "(Z)V"⟩
def dkwX7_must_0 : List UInt8 := [27, 154, 0, 15, 187, 0, 121, 89, 42, 180, 0, 82, 183, 0, 123, 191, 177]
abbrev dktX7_must_0 : List UInt8 := dkwX7_must_0 ++ []
theorem dksX7_must_0 : cX7_must.data.toList.drop 0 = dktX7_must_0 := by decide +kernel
theorem dX7_must_0 : decode cX7_must 0 = .ok (.iload_n 1, 1) := dk_27 (dk_at dksX7_must_0 0 rfl rfl)
theorem dX7_must_1 : decode cX7_must 1 = .ok (.ifCond .ne 15, 3) := dk_154 0 15 (dk_at dksX7_must_0 1 rfl rfl)
theorem dX7_must_4 : decode cX7_must 4 = .ok (.new 121, 3) := dk_187 0 121 (dk_at dksX7_must_0 4 rfl rfl)
theorem dX7_must_7 : decode cX7_must 7 = .ok (.dup, 1) := dk_89 (dk_at dksX7_must_0 7 rfl rfl)
theorem dX7_must_8 : decode cX7_must 8 = .ok (.aload_n 0, 1) := dk_42 (dk_at dksX7_must_0 8 rfl rfl)
theorem dX7_must_9 : decode cX7_must 9 = .ok (.getfield 82, 3) := dk_180 0 82 (dk_at dksX7_must_0 9 rfl rfl)
theorem dX7_must_12 : decode cX7_must 12 = .ok (.invokespecial 123, 3) := dk_183 0 123 (dk_at dksX7_must_0 12 rfl rfl)
theorem dX7_must_15 : decode cX7_must 15 = .ok (.athrow, 1) := dk_191 (dk_at dksX7_must_0 15 rfl rfl)
theorem dX7_must_16 : decode cX7_must 16 = .ok (.return_, 1) := dk_177 (dk_at dksX7_must_0 16 rfl rfl)
abbrev cX7_clause : ByteArray := prog_14_method_9_code
def yX7_clause : MethodName := ⟨RX7, "clause", "()LFiveTouch$Clause;"⟩
def dkwX7_clause_2 : List UInt8 := [153, 0, 10, 42, 182, 0, 136, 167, 0, 4, 1, 78, 187, 0, 50, 89, 27, 44, 45, 183, 0, 140, 176]
abbrev dktX7_clause_2 : List UInt8 := dkwX7_clause_2 ++ []
def dkwX7_clause_1 : List UInt8 := [182, 0, 65, 27, 154, 0, 10, 42, 182, 0, 130, 167, 0, 4, 1, 77, 42, 18, 134, 182, 0, 78]
abbrev dktX7_clause_1 : List UInt8 := dkwX7_clause_1 ++ dktX7_clause_2
def dkwX7_clause_0 : List UInt8 := [42, 42, 180, 0, 47, 182, 0, 126, 60, 42, 27, 2, 159, 0, 7, 4, 167, 0, 4, 3, 182, 0, 68, 42]
abbrev dktX7_clause_0 : List UInt8 := dkwX7_clause_0 ++ dktX7_clause_1
theorem dksX7_clause_0 : cX7_clause.data.toList.drop 0 = dktX7_clause_0 := by decide +kernel
theorem dksX7_clause_1 : cX7_clause.data.toList.drop 24 = dktX7_clause_1 := dk_seg dksX7_clause_0 24 rfl rfl
theorem dksX7_clause_2 : cX7_clause.data.toList.drop 46 = dktX7_clause_2 := dk_seg dksX7_clause_1 22 rfl rfl
theorem dX7_clause_0 : decode cX7_clause 0 = .ok (.aload_n 0, 1) := dk_42 (dk_at dksX7_clause_0 0 rfl rfl)
theorem dX7_clause_1 : decode cX7_clause 1 = .ok (.aload_n 0, 1) := dk_42 (dk_at dksX7_clause_0 1 rfl rfl)
theorem dX7_clause_2 : decode cX7_clause 2 = .ok (.getfield 47, 3) := dk_180 0 47 (dk_at dksX7_clause_0 2 rfl rfl)
theorem dX7_clause_5 : decode cX7_clause 5 = .ok (.invokevirtual 126, 3) := dk_182 0 126 (dk_at dksX7_clause_0 5 rfl rfl)
theorem dX7_clause_8 : decode cX7_clause 8 = .ok (.istore_n 1, 1) := dk_60 (dk_at dksX7_clause_0 8 rfl rfl)
theorem dX7_clause_9 : decode cX7_clause 9 = .ok (.aload_n 0, 1) := dk_42 (dk_at dksX7_clause_0 9 rfl rfl)
theorem dX7_clause_10 : decode cX7_clause 10 = .ok (.iload_n 1, 1) := dk_27 (dk_at dksX7_clause_0 10 rfl rfl)
theorem dX7_clause_11 : decode cX7_clause 11 = .ok (.iconst (-1), 1) := dk_2 (dk_at dksX7_clause_0 11 rfl rfl)
theorem dX7_clause_12 : decode cX7_clause 12 = .ok (.if_icmp .eq 7, 3) := dk_159 0 7 (dk_at dksX7_clause_0 12 rfl rfl)
theorem dX7_clause_15 : decode cX7_clause 15 = .ok (.iconst 1, 1) := dk_4 (dk_at dksX7_clause_0 15 rfl rfl)
theorem dX7_clause_16 : decode cX7_clause 16 = .ok (.goto 4, 3) := dk_167 0 4 (dk_at dksX7_clause_0 16 rfl rfl)
theorem dX7_clause_19 : decode cX7_clause 19 = .ok (.iconst 0, 1) := dk_3 (dk_at dksX7_clause_0 19 rfl rfl)
theorem dX7_clause_20 : decode cX7_clause 20 = .ok (.invokevirtual 68, 3) := dk_182 0 68 (dk_at dksX7_clause_0 20 rfl rfl)
theorem dX7_clause_23 : decode cX7_clause 23 = .ok (.aload_n 0, 1) := dk_42 (dk_at dksX7_clause_0 23 rfl rfl)
theorem dX7_clause_24 : decode cX7_clause 24 = .ok (.invokevirtual 65, 3) := dk_182 0 65 (dk_at dksX7_clause_1 0 rfl rfl)
theorem dX7_clause_27 : decode cX7_clause 27 = .ok (.iload_n 1, 1) := dk_27 (dk_at dksX7_clause_1 3 rfl rfl)
theorem dX7_clause_28 : decode cX7_clause 28 = .ok (.ifCond .ne 10, 3) := dk_154 0 10 (dk_at dksX7_clause_1 4 rfl rfl)
theorem dX7_clause_31 : decode cX7_clause 31 = .ok (.aload_n 0, 1) := dk_42 (dk_at dksX7_clause_1 7 rfl rfl)
theorem dX7_clause_32 : decode cX7_clause 32 = .ok (.invokevirtual 130, 3) := dk_182 0 130 (dk_at dksX7_clause_1 8 rfl rfl)
theorem dX7_clause_35 : decode cX7_clause 35 = .ok (.goto 4, 3) := dk_167 0 4 (dk_at dksX7_clause_1 11 rfl rfl)
theorem dX7_clause_38 : decode cX7_clause 38 = .ok (.aconst_null, 1) := dk_1 (dk_at dksX7_clause_1 14 rfl rfl)
theorem dX7_clause_39 : decode cX7_clause 39 = .ok (.astore_n 2, 1) := dk_77 (dk_at dksX7_clause_1 15 rfl rfl)
theorem dX7_clause_40 : decode cX7_clause 40 = .ok (.aload_n 0, 1) := dk_42 (dk_at dksX7_clause_1 16 rfl rfl)
theorem dX7_clause_41 : decode cX7_clause 41 = .ok (.ldc 134, 2) := dk_18 134 (dk_at dksX7_clause_1 17 rfl rfl)
theorem dX7_clause_43 : decode cX7_clause 43 = .ok (.invokevirtual 78, 3) := dk_182 0 78 (dk_at dksX7_clause_1 19 rfl rfl)
theorem dX7_clause_46 : decode cX7_clause 46 = .ok (.ifCond .eq 10, 3) := dk_153 0 10 (dk_at dksX7_clause_2 0 rfl rfl)
theorem dX7_clause_49 : decode cX7_clause 49 = .ok (.aload_n 0, 1) := dk_42 (dk_at dksX7_clause_2 3 rfl rfl)
theorem dX7_clause_50 : decode cX7_clause 50 = .ok (.invokevirtual 136, 3) := dk_182 0 136 (dk_at dksX7_clause_2 4 rfl rfl)
theorem dX7_clause_53 : decode cX7_clause 53 = .ok (.goto 4, 3) := dk_167 0 4 (dk_at dksX7_clause_2 7 rfl rfl)
theorem dX7_clause_56 : decode cX7_clause 56 = .ok (.aconst_null, 1) := dk_1 (dk_at dksX7_clause_2 10 rfl rfl)
theorem dX7_clause_57 : decode cX7_clause 57 = .ok (.astore_n 3, 1) := dk_78 (dk_at dksX7_clause_2 11 rfl rfl)
theorem dX7_clause_58 : decode cX7_clause 58 = .ok (.new 50, 3) := dk_187 0 50 (dk_at dksX7_clause_2 12 rfl rfl)
theorem dX7_clause_61 : decode cX7_clause 61 = .ok (.dup, 1) := dk_89 (dk_at dksX7_clause_2 15 rfl rfl)
theorem dX7_clause_62 : decode cX7_clause 62 = .ok (.iload_n 1, 1) := dk_27 (dk_at dksX7_clause_2 16 rfl rfl)
theorem dX7_clause_63 : decode cX7_clause 63 = .ok (.aload_n 2, 1) := dk_44 (dk_at dksX7_clause_2 17 rfl rfl)
theorem dX7_clause_64 : decode cX7_clause 64 = .ok (.aload_n 3, 1) := dk_45 (dk_at dksX7_clause_2 18 rfl rfl)
theorem dX7_clause_65 : decode cX7_clause 65 = .ok (.invokespecial 140, 3) := dk_183 0 140 (dk_at dksX7_clause_2 19 rfl rfl)
theorem dX7_clause_68 : decode cX7_clause 68 = .ok (.areturn, 1) := dk_176 (dk_at dksX7_clause_2 22 rfl rfl)
abbrev cX7_which : ByteArray := prog_14_method_5_code
def yX7_which : MethodName := ⟨RX7, "which", "([Ljava/lang/String;)I"⟩
def dkwX7_which_1 : List UInt8 := [167, 255, 235, 2, 172]
abbrev dktX7_which_1 : List UInt8 := dkwX7_which_1 ++ []
def dkwX7_which_0 : List UInt8 := [3, 61, 28, 43, 190, 162, 0, 21, 42, 43, 28, 50, 182, 0, 118, 153, 0, 5, 28, 172, 132, 2, 1]
abbrev dktX7_which_0 : List UInt8 := dkwX7_which_0 ++ dktX7_which_1
theorem dksX7_which_0 : cX7_which.data.toList.drop 0 = dktX7_which_0 := by decide +kernel
theorem dksX7_which_1 : cX7_which.data.toList.drop 23 = dktX7_which_1 := dk_seg dksX7_which_0 23 rfl rfl
theorem dX7_which_0 : decode cX7_which 0 = .ok (.iconst 0, 1) := dk_3 (dk_at dksX7_which_0 0 rfl rfl)
theorem dX7_which_1 : decode cX7_which 1 = .ok (.istore_n 2, 1) := dk_61 (dk_at dksX7_which_0 1 rfl rfl)
theorem dX7_which_2 : decode cX7_which 2 = .ok (.iload_n 2, 1) := dk_28 (dk_at dksX7_which_0 2 rfl rfl)
theorem dX7_which_3 : decode cX7_which 3 = .ok (.aload_n 1, 1) := dk_43 (dk_at dksX7_which_0 3 rfl rfl)
theorem dX7_which_4 : decode cX7_which 4 = .ok (.arraylength, 1) := dk_190 (dk_at dksX7_which_0 4 rfl rfl)
theorem dX7_which_5 : decode cX7_which 5 = .ok (.if_icmp .ge 21, 3) := dk_162 0 21 (dk_at dksX7_which_0 5 rfl rfl)
theorem dX7_which_8 : decode cX7_which 8 = .ok (.aload_n 0, 1) := dk_42 (dk_at dksX7_which_0 8 rfl rfl)
theorem dX7_which_9 : decode cX7_which 9 = .ok (.aload_n 1, 1) := dk_43 (dk_at dksX7_which_0 9 rfl rfl)
theorem dX7_which_10 : decode cX7_which 10 = .ok (.iload_n 2, 1) := dk_28 (dk_at dksX7_which_0 10 rfl rfl)
theorem dX7_which_11 : decode cX7_which 11 = .ok (.aaload, 1) := dk_50 (dk_at dksX7_which_0 11 rfl rfl)
theorem dX7_which_12 : decode cX7_which 12 = .ok (.invokevirtual 118, 3) := dk_182 0 118 (dk_at dksX7_which_0 12 rfl rfl)
theorem dX7_which_15 : decode cX7_which 15 = .ok (.ifCond .eq 5, 3) := dk_153 0 5 (dk_at dksX7_which_0 15 rfl rfl)
theorem dX7_which_18 : decode cX7_which 18 = .ok (.iload_n 2, 1) := dk_28 (dk_at dksX7_which_0 18 rfl rfl)
theorem dX7_which_19 : decode cX7_which 19 = .ok (.ireturn, 1) := dk_172 (dk_at dksX7_which_0 19 rfl rfl)
theorem dX7_which_20 : decode cX7_which 20 = .ok (.iinc 2 1, 3) := dk_132 2 1 (dk_at dksX7_which_0 20 rfl rfl)
theorem dX7_which_23 : decode cX7_which 23 = .ok (.goto (-21), 3) := dk_167 255 235 (dk_at dksX7_which_1 0 rfl rfl)
theorem dX7_which_26 : decode cX7_which 26 = .ok (.iconst (-1), 1) := dk_2 (dk_at dksX7_which_1 3 rfl rfl)
theorem dX7_which_27 : decode cX7_which 27 = .ok (.ireturn, 1) := dk_172 (dk_at dksX7_which_1 4 rfl rfl)
abbrev cX7_isWord : ByteArray := prog_14_method_4_code
def yX7_isWord : MethodName := ⟨RX7, "isWord", "(Ljava/lang/String;)Z"⟩
def dkwX7_isWord_2 : List UInt8 := [182, 0, 114, 159, 0, 5, 3, 172, 132, 2, 1, 167, 255, 221, 4, 172]
abbrev dktX7_isWord_2 : List UInt8 := dkwX7_isWord_2 ++ []
def dkwX7_isWord_1 : List UInt8 := [182, 0, 110, 162, 0, 33, 42, 180, 0, 3, 180, 0, 99, 42, 180, 0, 82, 28, 96, 51, 43, 28]
abbrev dktX7_isWord_1 : List UInt8 := dkwX7_isWord_1 ++ dktX7_isWord_2
def dkwX7_isWord_0 : List UInt8 := [42, 180, 0, 52, 42, 180, 0, 82, 100, 43, 182, 0, 110, 159, 0, 5, 3, 172, 3, 61, 28, 43]
abbrev dktX7_isWord_0 : List UInt8 := dkwX7_isWord_0 ++ dktX7_isWord_1
theorem dksX7_isWord_0 : cX7_isWord.data.toList.drop 0 = dktX7_isWord_0 := by decide +kernel
theorem dksX7_isWord_1 : cX7_isWord.data.toList.drop 22 = dktX7_isWord_1 := dk_seg dksX7_isWord_0 22 rfl rfl
theorem dksX7_isWord_2 : cX7_isWord.data.toList.drop 44 = dktX7_isWord_2 := dk_seg dksX7_isWord_1 22 rfl rfl
theorem dX7_isWord_0 : decode cX7_isWord 0 = .ok (.aload_n 0, 1) := dk_42 (dk_at dksX7_isWord_0 0 rfl rfl)
theorem dX7_isWord_1 : decode cX7_isWord 1 = .ok (.getfield 52, 3) := dk_180 0 52 (dk_at dksX7_isWord_0 1 rfl rfl)
theorem dX7_isWord_4 : decode cX7_isWord 4 = .ok (.aload_n 0, 1) := dk_42 (dk_at dksX7_isWord_0 4 rfl rfl)
theorem dX7_isWord_5 : decode cX7_isWord 5 = .ok (.getfield 82, 3) := dk_180 0 82 (dk_at dksX7_isWord_0 5 rfl rfl)
theorem dX7_isWord_8 : decode cX7_isWord 8 = .ok (.isub, 1) := dk_100 (dk_at dksX7_isWord_0 8 rfl rfl)
theorem dX7_isWord_9 : decode cX7_isWord 9 = .ok (.aload_n 1, 1) := dk_43 (dk_at dksX7_isWord_0 9 rfl rfl)
theorem dX7_isWord_10 : decode cX7_isWord 10 = .ok (.invokevirtual 110, 3) := dk_182 0 110 (dk_at dksX7_isWord_0 10 rfl rfl)
theorem dX7_isWord_13 : decode cX7_isWord 13 = .ok (.if_icmp .eq 5, 3) := dk_159 0 5 (dk_at dksX7_isWord_0 13 rfl rfl)
theorem dX7_isWord_16 : decode cX7_isWord 16 = .ok (.iconst 0, 1) := dk_3 (dk_at dksX7_isWord_0 16 rfl rfl)
theorem dX7_isWord_17 : decode cX7_isWord 17 = .ok (.ireturn, 1) := dk_172 (dk_at dksX7_isWord_0 17 rfl rfl)
theorem dX7_isWord_18 : decode cX7_isWord 18 = .ok (.iconst 0, 1) := dk_3 (dk_at dksX7_isWord_0 18 rfl rfl)
theorem dX7_isWord_19 : decode cX7_isWord 19 = .ok (.istore_n 2, 1) := dk_61 (dk_at dksX7_isWord_0 19 rfl rfl)
theorem dX7_isWord_20 : decode cX7_isWord 20 = .ok (.iload_n 2, 1) := dk_28 (dk_at dksX7_isWord_0 20 rfl rfl)
theorem dX7_isWord_21 : decode cX7_isWord 21 = .ok (.aload_n 1, 1) := dk_43 (dk_at dksX7_isWord_0 21 rfl rfl)
theorem dX7_isWord_22 : decode cX7_isWord 22 = .ok (.invokevirtual 110, 3) := dk_182 0 110 (dk_at dksX7_isWord_1 0 rfl rfl)
theorem dX7_isWord_25 : decode cX7_isWord 25 = .ok (.if_icmp .ge 33, 3) := dk_162 0 33 (dk_at dksX7_isWord_1 3 rfl rfl)
theorem dX7_isWord_28 : decode cX7_isWord 28 = .ok (.aload_n 0, 1) := dk_42 (dk_at dksX7_isWord_1 6 rfl rfl)
theorem dX7_isWord_29 : decode cX7_isWord 29 = .ok (.getfield 3, 3) := dk_180 0 3 (dk_at dksX7_isWord_1 7 rfl rfl)
theorem dX7_isWord_32 : decode cX7_isWord 32 = .ok (.getfield 99, 3) := dk_180 0 99 (dk_at dksX7_isWord_1 10 rfl rfl)
theorem dX7_isWord_35 : decode cX7_isWord 35 = .ok (.aload_n 0, 1) := dk_42 (dk_at dksX7_isWord_1 13 rfl rfl)
theorem dX7_isWord_36 : decode cX7_isWord 36 = .ok (.getfield 82, 3) := dk_180 0 82 (dk_at dksX7_isWord_1 14 rfl rfl)
theorem dX7_isWord_39 : decode cX7_isWord 39 = .ok (.iload_n 2, 1) := dk_28 (dk_at dksX7_isWord_1 17 rfl rfl)
theorem dX7_isWord_40 : decode cX7_isWord 40 = .ok (.iadd, 1) := dk_96 (dk_at dksX7_isWord_1 18 rfl rfl)
theorem dX7_isWord_41 : decode cX7_isWord 41 = .ok (.baload, 1) := dk_51 (dk_at dksX7_isWord_1 19 rfl rfl)
theorem dX7_isWord_42 : decode cX7_isWord 42 = .ok (.aload_n 1, 1) := dk_43 (dk_at dksX7_isWord_1 20 rfl rfl)
theorem dX7_isWord_43 : decode cX7_isWord 43 = .ok (.iload_n 2, 1) := dk_28 (dk_at dksX7_isWord_1 21 rfl rfl)
theorem dX7_isWord_44 : decode cX7_isWord 44 = .ok (.invokevirtual 114, 3) := dk_182 0 114 (dk_at dksX7_isWord_2 0 rfl rfl)
theorem dX7_isWord_47 : decode cX7_isWord 47 = .ok (.if_icmp .eq 5, 3) := dk_159 0 5 (dk_at dksX7_isWord_2 3 rfl rfl)
theorem dX7_isWord_50 : decode cX7_isWord 50 = .ok (.iconst 0, 1) := dk_3 (dk_at dksX7_isWord_2 6 rfl rfl)
theorem dX7_isWord_51 : decode cX7_isWord 51 = .ok (.ireturn, 1) := dk_172 (dk_at dksX7_isWord_2 7 rfl rfl)
theorem dX7_isWord_52 : decode cX7_isWord 52 = .ok (.iinc 2 1, 3) := dk_132 2 1 (dk_at dksX7_isWord_2 8 rfl rfl)
theorem dX7_isWord_55 : decode cX7_isWord 55 = .ok (.goto (-35), 3) := dk_167 255 221 (dk_at dksX7_isWord_2 11 rfl rfl)
theorem dX7_isWord_58 : decode cX7_isWord 58 = .ok (.iconst 1, 1) := dk_4 (dk_at dksX7_isWord_2 14 rfl rfl)
theorem dX7_isWord_59 : decode cX7_isWord 59 = .ok (.ireturn, 1) := dk_172 (dk_at dksX7_isWord_2 15 rfl rfl)
abbrev cX7_sum : ByteArray := prog_14_method_18_code
def yX7_sum : MethodName := ⟨RX7, "sum", "()LFiveTouch$Sum;"⟩
def dkwX7_sum_2 : List UInt8 := [182, 0, 194, 183, 0, 203, 76, 167, 255, 207, 43, 176]
abbrev dktX7_sum_2 : List UInt8 := dkwX7_sum_2 ++ []
def dkwX7_sum_1 : List UInt8 := [180, 0, 3, 180, 0, 99, 42, 180, 0, 82, 51, 61, 42, 182, 0, 65, 187, 0, 201, 89, 43, 28, 42]
abbrev dktX7_sum_1 : List UInt8 := dkwX7_sum_1 ++ dktX7_sum_2
def dkwX7_sum_0 : List UInt8 := [42, 182, 0, 194, 76, 42, 18, 197, 182, 0, 118, 154, 0, 12, 42, 18, 199, 182, 0, 118, 153, 0, 37, 42]
abbrev dktX7_sum_0 : List UInt8 := dkwX7_sum_0 ++ dktX7_sum_1
theorem dksX7_sum_0 : cX7_sum.data.toList.drop 0 = dktX7_sum_0 := by decide +kernel
theorem dksX7_sum_1 : cX7_sum.data.toList.drop 24 = dktX7_sum_1 := dk_seg dksX7_sum_0 24 rfl rfl
theorem dksX7_sum_2 : cX7_sum.data.toList.drop 47 = dktX7_sum_2 := dk_seg dksX7_sum_1 23 rfl rfl
theorem dX7_sum_0 : decode cX7_sum 0 = .ok (.aload_n 0, 1) := dk_42 (dk_at dksX7_sum_0 0 rfl rfl)
theorem dX7_sum_1 : decode cX7_sum 1 = .ok (.invokevirtual 194, 3) := dk_182 0 194 (dk_at dksX7_sum_0 1 rfl rfl)
theorem dX7_sum_4 : decode cX7_sum 4 = .ok (.astore_n 1, 1) := dk_76 (dk_at dksX7_sum_0 4 rfl rfl)
theorem dX7_sum_5 : decode cX7_sum 5 = .ok (.aload_n 0, 1) := dk_42 (dk_at dksX7_sum_0 5 rfl rfl)
theorem dX7_sum_6 : decode cX7_sum 6 = .ok (.ldc 197, 2) := dk_18 197 (dk_at dksX7_sum_0 6 rfl rfl)
theorem dX7_sum_8 : decode cX7_sum 8 = .ok (.invokevirtual 118, 3) := dk_182 0 118 (dk_at dksX7_sum_0 8 rfl rfl)
theorem dX7_sum_11 : decode cX7_sum 11 = .ok (.ifCond .ne 12, 3) := dk_154 0 12 (dk_at dksX7_sum_0 11 rfl rfl)
theorem dX7_sum_14 : decode cX7_sum 14 = .ok (.aload_n 0, 1) := dk_42 (dk_at dksX7_sum_0 14 rfl rfl)
theorem dX7_sum_15 : decode cX7_sum 15 = .ok (.ldc 199, 2) := dk_18 199 (dk_at dksX7_sum_0 15 rfl rfl)
theorem dX7_sum_17 : decode cX7_sum 17 = .ok (.invokevirtual 118, 3) := dk_182 0 118 (dk_at dksX7_sum_0 17 rfl rfl)
theorem dX7_sum_20 : decode cX7_sum 20 = .ok (.ifCond .eq 37, 3) := dk_153 0 37 (dk_at dksX7_sum_0 20 rfl rfl)
theorem dX7_sum_23 : decode cX7_sum 23 = .ok (.aload_n 0, 1) := dk_42 (dk_at dksX7_sum_0 23 rfl rfl)
theorem dX7_sum_24 : decode cX7_sum 24 = .ok (.getfield 3, 3) := dk_180 0 3 (dk_at dksX7_sum_1 0 rfl rfl)
theorem dX7_sum_27 : decode cX7_sum 27 = .ok (.getfield 99, 3) := dk_180 0 99 (dk_at dksX7_sum_1 3 rfl rfl)
theorem dX7_sum_30 : decode cX7_sum 30 = .ok (.aload_n 0, 1) := dk_42 (dk_at dksX7_sum_1 6 rfl rfl)
theorem dX7_sum_31 : decode cX7_sum 31 = .ok (.getfield 82, 3) := dk_180 0 82 (dk_at dksX7_sum_1 7 rfl rfl)
theorem dX7_sum_34 : decode cX7_sum 34 = .ok (.baload, 1) := dk_51 (dk_at dksX7_sum_1 10 rfl rfl)
theorem dX7_sum_35 : decode cX7_sum 35 = .ok (.istore_n 2, 1) := dk_61 (dk_at dksX7_sum_1 11 rfl rfl)
theorem dX7_sum_36 : decode cX7_sum 36 = .ok (.aload_n 0, 1) := dk_42 (dk_at dksX7_sum_1 12 rfl rfl)
theorem dX7_sum_37 : decode cX7_sum 37 = .ok (.invokevirtual 65, 3) := dk_182 0 65 (dk_at dksX7_sum_1 13 rfl rfl)
theorem dX7_sum_40 : decode cX7_sum 40 = .ok (.new 201, 3) := dk_187 0 201 (dk_at dksX7_sum_1 16 rfl rfl)
theorem dX7_sum_43 : decode cX7_sum 43 = .ok (.dup, 1) := dk_89 (dk_at dksX7_sum_1 19 rfl rfl)
theorem dX7_sum_44 : decode cX7_sum 44 = .ok (.aload_n 1, 1) := dk_43 (dk_at dksX7_sum_1 20 rfl rfl)
theorem dX7_sum_45 : decode cX7_sum 45 = .ok (.iload_n 2, 1) := dk_28 (dk_at dksX7_sum_1 21 rfl rfl)
theorem dX7_sum_46 : decode cX7_sum 46 = .ok (.aload_n 0, 1) := dk_42 (dk_at dksX7_sum_1 22 rfl rfl)
theorem dX7_sum_47 : decode cX7_sum 47 = .ok (.invokevirtual 194, 3) := dk_182 0 194 (dk_at dksX7_sum_2 0 rfl rfl)
theorem dX7_sum_50 : decode cX7_sum 50 = .ok (.invokespecial 203, 3) := dk_183 0 203 (dk_at dksX7_sum_2 3 rfl rfl)
theorem dX7_sum_53 : decode cX7_sum 53 = .ok (.astore_n 1, 1) := dk_76 (dk_at dksX7_sum_2 6 rfl rfl)
theorem dX7_sum_54 : decode cX7_sum 54 = .ok (.goto (-49), 3) := dk_167 255 207 (dk_at dksX7_sum_2 7 rfl rfl)
theorem dX7_sum_57 : decode cX7_sum 57 = .ok (.aload_n 1, 1) := dk_43 (dk_at dksX7_sum_2 10 rfl rfl)
theorem dX7_sum_58 : decode cX7_sum 58 = .ok (.areturn, 1) := dk_176 (dk_at dksX7_sum_2 11 rfl rfl)
abbrev cX7_term : ByteArray := prog_14_method_19_code
def yX7_term : MethodName := ⟨RX7, "term", "()LFiveTouch$Sum;"⟩
def dkwX7_term_2 : List UInt8 := [182, 0, 204, 183, 0, 203, 76, 167, 255, 207, 43, 176]
abbrev dktX7_term_2 : List UInt8 := dkwX7_term_2 ++ []
def dkwX7_term_1 : List UInt8 := [180, 0, 3, 180, 0, 99, 42, 180, 0, 82, 51, 61, 42, 182, 0, 65, 187, 0, 201, 89, 43, 28, 42]
abbrev dktX7_term_1 : List UInt8 := dkwX7_term_1 ++ dktX7_term_2
def dkwX7_term_0 : List UInt8 := [42, 182, 0, 204, 76, 42, 18, 207, 182, 0, 118, 154, 0, 12, 42, 18, 209, 182, 0, 118, 153, 0, 37, 42]
abbrev dktX7_term_0 : List UInt8 := dkwX7_term_0 ++ dktX7_term_1
theorem dksX7_term_0 : cX7_term.data.toList.drop 0 = dktX7_term_0 := by decide +kernel
theorem dksX7_term_1 : cX7_term.data.toList.drop 24 = dktX7_term_1 := dk_seg dksX7_term_0 24 rfl rfl
theorem dksX7_term_2 : cX7_term.data.toList.drop 47 = dktX7_term_2 := dk_seg dksX7_term_1 23 rfl rfl
theorem dX7_term_0 : decode cX7_term 0 = .ok (.aload_n 0, 1) := dk_42 (dk_at dksX7_term_0 0 rfl rfl)
theorem dX7_term_1 : decode cX7_term 1 = .ok (.invokevirtual 204, 3) := dk_182 0 204 (dk_at dksX7_term_0 1 rfl rfl)
theorem dX7_term_4 : decode cX7_term 4 = .ok (.astore_n 1, 1) := dk_76 (dk_at dksX7_term_0 4 rfl rfl)
theorem dX7_term_5 : decode cX7_term 5 = .ok (.aload_n 0, 1) := dk_42 (dk_at dksX7_term_0 5 rfl rfl)
theorem dX7_term_6 : decode cX7_term 6 = .ok (.ldc 207, 2) := dk_18 207 (dk_at dksX7_term_0 6 rfl rfl)
theorem dX7_term_8 : decode cX7_term 8 = .ok (.invokevirtual 118, 3) := dk_182 0 118 (dk_at dksX7_term_0 8 rfl rfl)
theorem dX7_term_11 : decode cX7_term 11 = .ok (.ifCond .ne 12, 3) := dk_154 0 12 (dk_at dksX7_term_0 11 rfl rfl)
theorem dX7_term_14 : decode cX7_term 14 = .ok (.aload_n 0, 1) := dk_42 (dk_at dksX7_term_0 14 rfl rfl)
theorem dX7_term_15 : decode cX7_term 15 = .ok (.ldc 209, 2) := dk_18 209 (dk_at dksX7_term_0 15 rfl rfl)
theorem dX7_term_17 : decode cX7_term 17 = .ok (.invokevirtual 118, 3) := dk_182 0 118 (dk_at dksX7_term_0 17 rfl rfl)
theorem dX7_term_20 : decode cX7_term 20 = .ok (.ifCond .eq 37, 3) := dk_153 0 37 (dk_at dksX7_term_0 20 rfl rfl)
theorem dX7_term_23 : decode cX7_term 23 = .ok (.aload_n 0, 1) := dk_42 (dk_at dksX7_term_0 23 rfl rfl)
theorem dX7_term_24 : decode cX7_term 24 = .ok (.getfield 3, 3) := dk_180 0 3 (dk_at dksX7_term_1 0 rfl rfl)
theorem dX7_term_27 : decode cX7_term 27 = .ok (.getfield 99, 3) := dk_180 0 99 (dk_at dksX7_term_1 3 rfl rfl)
theorem dX7_term_30 : decode cX7_term 30 = .ok (.aload_n 0, 1) := dk_42 (dk_at dksX7_term_1 6 rfl rfl)
theorem dX7_term_31 : decode cX7_term 31 = .ok (.getfield 82, 3) := dk_180 0 82 (dk_at dksX7_term_1 7 rfl rfl)
theorem dX7_term_34 : decode cX7_term 34 = .ok (.baload, 1) := dk_51 (dk_at dksX7_term_1 10 rfl rfl)
theorem dX7_term_35 : decode cX7_term 35 = .ok (.istore_n 2, 1) := dk_61 (dk_at dksX7_term_1 11 rfl rfl)
theorem dX7_term_36 : decode cX7_term 36 = .ok (.aload_n 0, 1) := dk_42 (dk_at dksX7_term_1 12 rfl rfl)
theorem dX7_term_37 : decode cX7_term 37 = .ok (.invokevirtual 65, 3) := dk_182 0 65 (dk_at dksX7_term_1 13 rfl rfl)
theorem dX7_term_40 : decode cX7_term 40 = .ok (.new 201, 3) := dk_187 0 201 (dk_at dksX7_term_1 16 rfl rfl)
theorem dX7_term_43 : decode cX7_term 43 = .ok (.dup, 1) := dk_89 (dk_at dksX7_term_1 19 rfl rfl)
theorem dX7_term_44 : decode cX7_term 44 = .ok (.aload_n 1, 1) := dk_43 (dk_at dksX7_term_1 20 rfl rfl)
theorem dX7_term_45 : decode cX7_term 45 = .ok (.iload_n 2, 1) := dk_28 (dk_at dksX7_term_1 21 rfl rfl)
theorem dX7_term_46 : decode cX7_term 46 = .ok (.aload_n 0, 1) := dk_42 (dk_at dksX7_term_1 22 rfl rfl)
theorem dX7_term_47 : decode cX7_term 47 = .ok (.invokevirtual 204, 3) := dk_182 0 204 (dk_at dksX7_term_2 0 rfl rfl)
theorem dX7_term_50 : decode cX7_term 50 = .ok (.invokespecial 203, 3) := dk_183 0 203 (dk_at dksX7_term_2 3 rfl rfl)
theorem dX7_term_53 : decode cX7_term 53 = .ok (.astore_n 1, 1) := dk_76 (dk_at dksX7_term_2 6 rfl rfl)
theorem dX7_term_54 : decode cX7_term 54 = .ok (.goto (-49), 3) := dk_167 255 207 (dk_at dksX7_term_2 7 rfl rfl)
theorem dX7_term_57 : decode cX7_term 57 = .ok (.aload_n 1, 1) := dk_43 (dk_at dksX7_term_2 10 rfl rfl)
theorem dX7_term_58 : decode cX7_term 58 = .ok (.areturn, 1) := dk_176 (dk_at dksX7_term_2 11 rfl rfl)
abbrev cX7_part : ByteArray := prog_14_method_20_code
def yX7_part : MethodName := ⟨RX7, "part", "()LFiveTouch$Sum;"⟩
def dkwX7_part_5 : List UInt8 := [183, 0, 227, 176]
abbrev dktX7_part_5 : List UInt8 := dkwX7_part_5 ++ []
def dkwX7_part_4 : List UInt8 := [42, 17, 3, 232, 182, 0, 220, 183, 0, 224, 176, 42, 182, 0, 215, 42, 182, 0, 65, 187, 0, 225, 89, 27]
abbrev dktX7_part_4 : List UInt8 := dkwX7_part_4 ++ dktX7_part_5
def dkwX7_part_3 : List UInt8 := [153, 0, 7, 4, 167, 0, 4, 3, 182, 0, 68, 27, 2, 160, 0, 22, 42, 182, 0, 215, 187, 0, 218, 89]
abbrev dktX7_part_3 : List UInt8 := dkwX7_part_3 ++ dktX7_part_4
def dkwX7_part_2 : List UInt8 := [180, 0, 3, 180, 0, 85, 162, 0, 25, 42, 180, 0, 3, 180, 0, 99, 42, 180, 0, 82, 51, 184, 0, 107]
abbrev dktX7_part_2 : List UInt8 := dkwX7_part_2 ++ dktX7_part_3
def dkwX7_part_1 : List UInt8 := [43, 176, 42, 42, 180, 0, 39, 182, 0, 126, 60, 42, 27, 2, 160, 0, 35, 42, 180, 0, 82, 42]
abbrev dktX7_part_1 : List UInt8 := dkwX7_part_1 ++ dktX7_part_2
def dkwX7_part_0 : List UInt8 := [42, 18, 211, 182, 0, 118, 153, 0, 20, 42, 182, 0, 170, 42, 182, 0, 130, 76, 42, 18, 213, 182, 0, 175]
abbrev dktX7_part_0 : List UInt8 := dkwX7_part_0 ++ dktX7_part_1
theorem dksX7_part_0 : cX7_part.data.toList.drop 0 = dktX7_part_0 := by decide +kernel
theorem dksX7_part_1 : cX7_part.data.toList.drop 24 = dktX7_part_1 := dk_seg dksX7_part_0 24 rfl rfl
theorem dksX7_part_2 : cX7_part.data.toList.drop 46 = dktX7_part_2 := dk_seg dksX7_part_1 22 rfl rfl
theorem dksX7_part_3 : cX7_part.data.toList.drop 70 = dktX7_part_3 := dk_seg dksX7_part_2 24 rfl rfl
theorem dksX7_part_4 : cX7_part.data.toList.drop 94 = dktX7_part_4 := dk_seg dksX7_part_3 24 rfl rfl
theorem dksX7_part_5 : cX7_part.data.toList.drop 118 = dktX7_part_5 := dk_seg dksX7_part_4 24 rfl rfl
theorem dX7_part_0 : decode cX7_part 0 = .ok (.aload_n 0, 1) := dk_42 (dk_at dksX7_part_0 0 rfl rfl)
theorem dX7_part_1 : decode cX7_part 1 = .ok (.ldc 211, 2) := dk_18 211 (dk_at dksX7_part_0 1 rfl rfl)
theorem dX7_part_3 : decode cX7_part 3 = .ok (.invokevirtual 118, 3) := dk_182 0 118 (dk_at dksX7_part_0 3 rfl rfl)
theorem dX7_part_6 : decode cX7_part 6 = .ok (.ifCond .eq 20, 3) := dk_153 0 20 (dk_at dksX7_part_0 6 rfl rfl)
theorem dX7_part_9 : decode cX7_part 9 = .ok (.aload_n 0, 1) := dk_42 (dk_at dksX7_part_0 9 rfl rfl)
theorem dX7_part_10 : decode cX7_part 10 = .ok (.invokevirtual 170, 3) := dk_182 0 170 (dk_at dksX7_part_0 10 rfl rfl)
theorem dX7_part_13 : decode cX7_part 13 = .ok (.aload_n 0, 1) := dk_42 (dk_at dksX7_part_0 13 rfl rfl)
theorem dX7_part_14 : decode cX7_part 14 = .ok (.invokevirtual 130, 3) := dk_182 0 130 (dk_at dksX7_part_0 14 rfl rfl)
theorem dX7_part_17 : decode cX7_part 17 = .ok (.astore_n 1, 1) := dk_76 (dk_at dksX7_part_0 17 rfl rfl)
theorem dX7_part_18 : decode cX7_part 18 = .ok (.aload_n 0, 1) := dk_42 (dk_at dksX7_part_0 18 rfl rfl)
theorem dX7_part_19 : decode cX7_part 19 = .ok (.ldc 213, 2) := dk_18 213 (dk_at dksX7_part_0 19 rfl rfl)
theorem dX7_part_21 : decode cX7_part 21 = .ok (.invokevirtual 175, 3) := dk_182 0 175 (dk_at dksX7_part_0 21 rfl rfl)
theorem dX7_part_24 : decode cX7_part 24 = .ok (.aload_n 1, 1) := dk_43 (dk_at dksX7_part_1 0 rfl rfl)
theorem dX7_part_25 : decode cX7_part 25 = .ok (.areturn, 1) := dk_176 (dk_at dksX7_part_1 1 rfl rfl)
theorem dX7_part_26 : decode cX7_part 26 = .ok (.aload_n 0, 1) := dk_42 (dk_at dksX7_part_1 2 rfl rfl)
theorem dX7_part_27 : decode cX7_part 27 = .ok (.aload_n 0, 1) := dk_42 (dk_at dksX7_part_1 3 rfl rfl)
theorem dX7_part_28 : decode cX7_part 28 = .ok (.getfield 39, 3) := dk_180 0 39 (dk_at dksX7_part_1 4 rfl rfl)
theorem dX7_part_31 : decode cX7_part 31 = .ok (.invokevirtual 126, 3) := dk_182 0 126 (dk_at dksX7_part_1 7 rfl rfl)
theorem dX7_part_34 : decode cX7_part 34 = .ok (.istore_n 1, 1) := dk_60 (dk_at dksX7_part_1 10 rfl rfl)
theorem dX7_part_35 : decode cX7_part 35 = .ok (.aload_n 0, 1) := dk_42 (dk_at dksX7_part_1 11 rfl rfl)
theorem dX7_part_36 : decode cX7_part 36 = .ok (.iload_n 1, 1) := dk_27 (dk_at dksX7_part_1 12 rfl rfl)
theorem dX7_part_37 : decode cX7_part 37 = .ok (.iconst (-1), 1) := dk_2 (dk_at dksX7_part_1 13 rfl rfl)
theorem dX7_part_38 : decode cX7_part 38 = .ok (.if_icmp .ne 35, 3) := dk_160 0 35 (dk_at dksX7_part_1 14 rfl rfl)
theorem dX7_part_41 : decode cX7_part 41 = .ok (.aload_n 0, 1) := dk_42 (dk_at dksX7_part_1 17 rfl rfl)
theorem dX7_part_42 : decode cX7_part 42 = .ok (.getfield 82, 3) := dk_180 0 82 (dk_at dksX7_part_1 18 rfl rfl)
theorem dX7_part_45 : decode cX7_part 45 = .ok (.aload_n 0, 1) := dk_42 (dk_at dksX7_part_1 21 rfl rfl)
theorem dX7_part_46 : decode cX7_part 46 = .ok (.getfield 3, 3) := dk_180 0 3 (dk_at dksX7_part_2 0 rfl rfl)
theorem dX7_part_49 : decode cX7_part 49 = .ok (.getfield 85, 3) := dk_180 0 85 (dk_at dksX7_part_2 3 rfl rfl)
theorem dX7_part_52 : decode cX7_part 52 = .ok (.if_icmp .ge 25, 3) := dk_162 0 25 (dk_at dksX7_part_2 6 rfl rfl)
theorem dX7_part_55 : decode cX7_part 55 = .ok (.aload_n 0, 1) := dk_42 (dk_at dksX7_part_2 9 rfl rfl)
theorem dX7_part_56 : decode cX7_part 56 = .ok (.getfield 3, 3) := dk_180 0 3 (dk_at dksX7_part_2 10 rfl rfl)
theorem dX7_part_59 : decode cX7_part 59 = .ok (.getfield 99, 3) := dk_180 0 99 (dk_at dksX7_part_2 13 rfl rfl)
theorem dX7_part_62 : decode cX7_part 62 = .ok (.aload_n 0, 1) := dk_42 (dk_at dksX7_part_2 16 rfl rfl)
theorem dX7_part_63 : decode cX7_part 63 = .ok (.getfield 82, 3) := dk_180 0 82 (dk_at dksX7_part_2 17 rfl rfl)
theorem dX7_part_66 : decode cX7_part 66 = .ok (.baload, 1) := dk_51 (dk_at dksX7_part_2 20 rfl rfl)
theorem dX7_part_67 : decode cX7_part 67 = .ok (.invokestatic 107, 3) := dk_184 0 107 (dk_at dksX7_part_2 21 rfl rfl)
theorem dX7_part_70 : decode cX7_part 70 = .ok (.ifCond .eq 7, 3) := dk_153 0 7 (dk_at dksX7_part_3 0 rfl rfl)
theorem dX7_part_73 : decode cX7_part 73 = .ok (.iconst 1, 1) := dk_4 (dk_at dksX7_part_3 3 rfl rfl)
theorem dX7_part_74 : decode cX7_part 74 = .ok (.goto 4, 3) := dk_167 0 4 (dk_at dksX7_part_3 4 rfl rfl)
theorem dX7_part_77 : decode cX7_part 77 = .ok (.iconst 0, 1) := dk_3 (dk_at dksX7_part_3 7 rfl rfl)
theorem dX7_part_78 : decode cX7_part 78 = .ok (.invokevirtual 68, 3) := dk_182 0 68 (dk_at dksX7_part_3 8 rfl rfl)
theorem dX7_part_81 : decode cX7_part 81 = .ok (.iload_n 1, 1) := dk_27 (dk_at dksX7_part_3 11 rfl rfl)
theorem dX7_part_82 : decode cX7_part 82 = .ok (.iconst (-1), 1) := dk_2 (dk_at dksX7_part_3 12 rfl rfl)
theorem dX7_part_83 : decode cX7_part 83 = .ok (.if_icmp .ne 22, 3) := dk_160 0 22 (dk_at dksX7_part_3 13 rfl rfl)
theorem dX7_part_86 : decode cX7_part 86 = .ok (.aload_n 0, 1) := dk_42 (dk_at dksX7_part_3 16 rfl rfl)
theorem dX7_part_87 : decode cX7_part 87 = .ok (.invokevirtual 215, 3) := dk_182 0 215 (dk_at dksX7_part_3 17 rfl rfl)
theorem dX7_part_90 : decode cX7_part 90 = .ok (.new 218, 3) := dk_187 0 218 (dk_at dksX7_part_3 20 rfl rfl)
theorem dX7_part_93 : decode cX7_part 93 = .ok (.dup, 1) := dk_89 (dk_at dksX7_part_3 23 rfl rfl)
theorem dX7_part_94 : decode cX7_part 94 = .ok (.aload_n 0, 1) := dk_42 (dk_at dksX7_part_4 0 rfl rfl)
theorem dX7_part_95 : decode cX7_part 95 = .ok (.sipush 1000, 3) := dk_17 3 232 (dk_at dksX7_part_4 1 rfl rfl)
theorem dX7_part_98 : decode cX7_part 98 = .ok (.invokevirtual 220, 3) := dk_182 0 220 (dk_at dksX7_part_4 4 rfl rfl)
theorem dX7_part_101 : decode cX7_part 101 = .ok (.invokespecial 224, 3) := dk_183 0 224 (dk_at dksX7_part_4 7 rfl rfl)
theorem dX7_part_104 : decode cX7_part 104 = .ok (.areturn, 1) := dk_176 (dk_at dksX7_part_4 10 rfl rfl)
theorem dX7_part_105 : decode cX7_part 105 = .ok (.aload_n 0, 1) := dk_42 (dk_at dksX7_part_4 11 rfl rfl)
theorem dX7_part_106 : decode cX7_part 106 = .ok (.invokevirtual 215, 3) := dk_182 0 215 (dk_at dksX7_part_4 12 rfl rfl)
theorem dX7_part_109 : decode cX7_part 109 = .ok (.aload_n 0, 1) := dk_42 (dk_at dksX7_part_4 15 rfl rfl)
theorem dX7_part_110 : decode cX7_part 110 = .ok (.invokevirtual 65, 3) := dk_182 0 65 (dk_at dksX7_part_4 16 rfl rfl)
theorem dX7_part_113 : decode cX7_part 113 = .ok (.new 225, 3) := dk_187 0 225 (dk_at dksX7_part_4 19 rfl rfl)
theorem dX7_part_116 : decode cX7_part 116 = .ok (.dup, 1) := dk_89 (dk_at dksX7_part_4 22 rfl rfl)
theorem dX7_part_117 : decode cX7_part 117 = .ok (.iload_n 1, 1) := dk_27 (dk_at dksX7_part_4 23 rfl rfl)
theorem dX7_part_118 : decode cX7_part 118 = .ok (.invokespecial 227, 3) := dk_183 0 227 (dk_at dksX7_part_5 0 rfl rfl)
theorem dX7_part_121 : decode cX7_part 121 = .ok (.areturn, 1) := dk_176 (dk_at dksX7_part_5 3 rfl rfl)
abbrev cX7_open : ByteArray := prog_14_method_14_code
def yX7_open : MethodName := ⟨RX7, "open", "()V"⟩
def dkwX7_open_1 : List UInt8 := [96, 181, 0, 59, 42, 182, 0, 65, 177]
abbrev dktX7_open_1 : List UInt8 := dkwX7_open_1 ++ []
def dkwX7_open_0 : List UInt8 := [42, 42, 180, 0, 59, 16, 8, 162, 0, 7, 4, 167, 0, 4, 3, 182, 0, 68, 42, 89, 180, 0, 59, 4]
abbrev dktX7_open_0 : List UInt8 := dkwX7_open_0 ++ dktX7_open_1
theorem dksX7_open_0 : cX7_open.data.toList.drop 0 = dktX7_open_0 := by decide +kernel
theorem dksX7_open_1 : cX7_open.data.toList.drop 24 = dktX7_open_1 := dk_seg dksX7_open_0 24 rfl rfl
theorem dX7_open_0 : decode cX7_open 0 = .ok (.aload_n 0, 1) := dk_42 (dk_at dksX7_open_0 0 rfl rfl)
theorem dX7_open_1 : decode cX7_open 1 = .ok (.aload_n 0, 1) := dk_42 (dk_at dksX7_open_0 1 rfl rfl)
theorem dX7_open_2 : decode cX7_open 2 = .ok (.getfield 59, 3) := dk_180 0 59 (dk_at dksX7_open_0 2 rfl rfl)
theorem dX7_open_5 : decode cX7_open 5 = .ok (.bipush 8, 2) := dk_16 8 (dk_at dksX7_open_0 5 rfl rfl)
theorem dX7_open_7 : decode cX7_open 7 = .ok (.if_icmp .ge 7, 3) := dk_162 0 7 (dk_at dksX7_open_0 7 rfl rfl)
theorem dX7_open_10 : decode cX7_open 10 = .ok (.iconst 1, 1) := dk_4 (dk_at dksX7_open_0 10 rfl rfl)
theorem dX7_open_11 : decode cX7_open 11 = .ok (.goto 4, 3) := dk_167 0 4 (dk_at dksX7_open_0 11 rfl rfl)
theorem dX7_open_14 : decode cX7_open 14 = .ok (.iconst 0, 1) := dk_3 (dk_at dksX7_open_0 14 rfl rfl)
theorem dX7_open_15 : decode cX7_open 15 = .ok (.invokevirtual 68, 3) := dk_182 0 68 (dk_at dksX7_open_0 15 rfl rfl)
theorem dX7_open_18 : decode cX7_open 18 = .ok (.aload_n 0, 1) := dk_42 (dk_at dksX7_open_0 18 rfl rfl)
theorem dX7_open_19 : decode cX7_open 19 = .ok (.dup, 1) := dk_89 (dk_at dksX7_open_0 19 rfl rfl)
theorem dX7_open_20 : decode cX7_open 20 = .ok (.getfield 59, 3) := dk_180 0 59 (dk_at dksX7_open_0 20 rfl rfl)
theorem dX7_open_23 : decode cX7_open 23 = .ok (.iconst 1, 1) := dk_4 (dk_at dksX7_open_0 23 rfl rfl)
theorem dX7_open_24 : decode cX7_open 24 = .ok (.iadd, 1) := dk_96 (dk_at dksX7_open_1 0 rfl rfl)
theorem dX7_open_25 : decode cX7_open 25 = .ok (.putfield 59, 3) := dk_181 0 59 (dk_at dksX7_open_1 1 rfl rfl)
theorem dX7_open_28 : decode cX7_open 28 = .ok (.aload_n 0, 1) := dk_42 (dk_at dksX7_open_1 4 rfl rfl)
theorem dX7_open_29 : decode cX7_open 29 = .ok (.invokevirtual 65, 3) := dk_182 0 65 (dk_at dksX7_open_1 5 rfl rfl)
theorem dX7_open_32 : decode cX7_open 32 = .ok (.return_, 1) := dk_177 (dk_at dksX7_open_1 8 rfl rfl)
abbrev cX7_close : ByteArray := prog_14_method_15_code
def yX7_close : MethodName := ⟨RX7, "close", "(Ljava/lang/String;)V"⟩
def dkwX7_close_0 : List UInt8 := [42, 42, 43, 182, 0, 78, 182, 0, 68, 42, 89, 180, 0, 59, 4, 100, 181, 0, 59, 177]
abbrev dktX7_close_0 : List UInt8 := dkwX7_close_0 ++ []
theorem dksX7_close_0 : cX7_close.data.toList.drop 0 = dktX7_close_0 := by decide +kernel
theorem dX7_close_0 : decode cX7_close 0 = .ok (.aload_n 0, 1) := dk_42 (dk_at dksX7_close_0 0 rfl rfl)
theorem dX7_close_1 : decode cX7_close 1 = .ok (.aload_n 0, 1) := dk_42 (dk_at dksX7_close_0 1 rfl rfl)
theorem dX7_close_2 : decode cX7_close 2 = .ok (.aload_n 1, 1) := dk_43 (dk_at dksX7_close_0 2 rfl rfl)
theorem dX7_close_3 : decode cX7_close 3 = .ok (.invokevirtual 78, 3) := dk_182 0 78 (dk_at dksX7_close_0 3 rfl rfl)
theorem dX7_close_6 : decode cX7_close 6 = .ok (.invokevirtual 68, 3) := dk_182 0 68 (dk_at dksX7_close_0 6 rfl rfl)
theorem dX7_close_9 : decode cX7_close 9 = .ok (.aload_n 0, 1) := dk_42 (dk_at dksX7_close_0 9 rfl rfl)
theorem dX7_close_10 : decode cX7_close 10 = .ok (.dup, 1) := dk_89 (dk_at dksX7_close_0 10 rfl rfl)
theorem dX7_close_11 : decode cX7_close 11 = .ok (.getfield 59, 3) := dk_180 0 59 (dk_at dksX7_close_0 11 rfl rfl)
theorem dX7_close_14 : decode cX7_close 14 = .ok (.iconst 1, 1) := dk_4 (dk_at dksX7_close_0 14 rfl rfl)
theorem dX7_close_15 : decode cX7_close 15 = .ok (.isub, 1) := dk_100 (dk_at dksX7_close_0 15 rfl rfl)
theorem dX7_close_16 : decode cX7_close 16 = .ok (.putfield 59, 3) := dk_181 0 59 (dk_at dksX7_close_0 16 rfl rfl)
theorem dX7_close_19 : decode cX7_close 19 = .ok (.return_, 1) := dk_177 (dk_at dksX7_close_0 19 rfl rfl)
abbrev cX7_accept : ByteArray := prog_14_method_6_code
def yX7_accept : MethodName := ⟨RX7, "accept", "(Ljava/lang/String;)Z"⟩
def dkwX7_accept_0 : List UInt8 := [42, 43, 182, 0, 118, 61, 28, 153, 0, 7, 42, 182, 0, 65, 28, 172]
abbrev dktX7_accept_0 : List UInt8 := dkwX7_accept_0 ++ []
theorem dksX7_accept_0 : cX7_accept.data.toList.drop 0 = dktX7_accept_0 := by decide +kernel
theorem dX7_accept_0 : decode cX7_accept 0 = .ok (.aload_n 0, 1) := dk_42 (dk_at dksX7_accept_0 0 rfl rfl)
theorem dX7_accept_1 : decode cX7_accept 1 = .ok (.aload_n 1, 1) := dk_43 (dk_at dksX7_accept_0 1 rfl rfl)
theorem dX7_accept_2 : decode cX7_accept 2 = .ok (.invokevirtual 118, 3) := dk_182 0 118 (dk_at dksX7_accept_0 2 rfl rfl)
theorem dX7_accept_5 : decode cX7_accept 5 = .ok (.istore_n 2, 1) := dk_61 (dk_at dksX7_accept_0 5 rfl rfl)
theorem dX7_accept_6 : decode cX7_accept 6 = .ok (.iload_n 2, 1) := dk_28 (dk_at dksX7_accept_0 6 rfl rfl)
theorem dX7_accept_7 : decode cX7_accept 7 = .ok (.ifCond .eq 7, 3) := dk_153 0 7 (dk_at dksX7_accept_0 7 rfl rfl)
theorem dX7_accept_10 : decode cX7_accept 10 = .ok (.aload_n 0, 1) := dk_42 (dk_at dksX7_accept_0 10 rfl rfl)
theorem dX7_accept_11 : decode cX7_accept 11 = .ok (.invokevirtual 65, 3) := dk_182 0 65 (dk_at dksX7_accept_0 11 rfl rfl)
theorem dX7_accept_14 : decode cX7_accept 14 = .ok (.iload_n 2, 1) := dk_28 (dk_at dksX7_accept_0 14 rfl rfl)
theorem dX7_accept_15 : decode cX7_accept 15 = .ok (.ireturn, 1) := dk_172 (dk_at dksX7_accept_0 15 rfl rfl)
abbrev cX7_leaf : ByteArray := prog_14_method_16_code
def yX7_leaf : MethodName := ⟨RX7, "leaf", "()V"⟩
def dkwX7_leaf_1 : List UInt8 := [96, 181, 0, 56, 177]
abbrev dktX7_leaf_1 : List UInt8 := dkwX7_leaf_1 ++ []
def dkwX7_leaf_0 : List UInt8 := [42, 42, 180, 0, 56, 16, 50, 162, 0, 7, 4, 167, 0, 4, 3, 182, 0, 68, 42, 89, 180, 0, 56, 4]
abbrev dktX7_leaf_0 : List UInt8 := dkwX7_leaf_0 ++ dktX7_leaf_1
theorem dksX7_leaf_0 : cX7_leaf.data.toList.drop 0 = dktX7_leaf_0 := by decide +kernel
theorem dksX7_leaf_1 : cX7_leaf.data.toList.drop 24 = dktX7_leaf_1 := dk_seg dksX7_leaf_0 24 rfl rfl
theorem dX7_leaf_0 : decode cX7_leaf 0 = .ok (.aload_n 0, 1) := dk_42 (dk_at dksX7_leaf_0 0 rfl rfl)
theorem dX7_leaf_1 : decode cX7_leaf 1 = .ok (.aload_n 0, 1) := dk_42 (dk_at dksX7_leaf_0 1 rfl rfl)
theorem dX7_leaf_2 : decode cX7_leaf 2 = .ok (.getfield 56, 3) := dk_180 0 56 (dk_at dksX7_leaf_0 2 rfl rfl)
theorem dX7_leaf_5 : decode cX7_leaf 5 = .ok (.bipush 50, 2) := dk_16 50 (dk_at dksX7_leaf_0 5 rfl rfl)
theorem dX7_leaf_7 : decode cX7_leaf 7 = .ok (.if_icmp .ge 7, 3) := dk_162 0 7 (dk_at dksX7_leaf_0 7 rfl rfl)
theorem dX7_leaf_10 : decode cX7_leaf 10 = .ok (.iconst 1, 1) := dk_4 (dk_at dksX7_leaf_0 10 rfl rfl)
theorem dX7_leaf_11 : decode cX7_leaf 11 = .ok (.goto 4, 3) := dk_167 0 4 (dk_at dksX7_leaf_0 11 rfl rfl)
theorem dX7_leaf_14 : decode cX7_leaf 14 = .ok (.iconst 0, 1) := dk_3 (dk_at dksX7_leaf_0 14 rfl rfl)
theorem dX7_leaf_15 : decode cX7_leaf 15 = .ok (.invokevirtual 68, 3) := dk_182 0 68 (dk_at dksX7_leaf_0 15 rfl rfl)
theorem dX7_leaf_18 : decode cX7_leaf 18 = .ok (.aload_n 0, 1) := dk_42 (dk_at dksX7_leaf_0 18 rfl rfl)
theorem dX7_leaf_19 : decode cX7_leaf 19 = .ok (.dup, 1) := dk_89 (dk_at dksX7_leaf_0 19 rfl rfl)
theorem dX7_leaf_20 : decode cX7_leaf 20 = .ok (.getfield 56, 3) := dk_180 0 56 (dk_at dksX7_leaf_0 20 rfl rfl)
theorem dX7_leaf_23 : decode cX7_leaf 23 = .ok (.iconst 1, 1) := dk_4 (dk_at dksX7_leaf_0 23 rfl rfl)
theorem dX7_leaf_24 : decode cX7_leaf 24 = .ok (.iadd, 1) := dk_96 (dk_at dksX7_leaf_1 0 rfl rfl)
theorem dX7_leaf_25 : decode cX7_leaf 25 = .ok (.putfield 56, 3) := dk_181 0 56 (dk_at dksX7_leaf_1 1 rfl rfl)
theorem dX7_leaf_28 : decode cX7_leaf 28 = .ok (.return_, 1) := dk_177 (dk_at dksX7_leaf_1 4 rfl rfl)
abbrev cX7_number : ByteArray := prog_14_method_8_code
def yX7_number : MethodName := ⟨RX7, "number", "(I)I"⟩
def dkwX7_number_4 : List UInt8 := [167, 0, 4, 3, 182, 0, 68, 42, 182, 0, 65, 28, 172]
abbrev dktX7_number_4 : List UInt8 := dkwX7_number_4 ++ []
def dkwX7_number_3 : List UInt8 := [180, 0, 99, 29, 51, 96, 16, 48, 100, 61, 132, 3, 1, 167, 255, 222, 42, 28, 27, 163, 0, 7, 4]
abbrev dktX7_number_3 : List UInt8 := dkwX7_number_3 ++ dktX7_number_4
def dkwX7_number_2 : List UInt8 := [62, 29, 42, 180, 0, 52, 162, 0, 32, 28, 27, 163, 0, 27, 16, 10, 28, 104, 42, 180, 0, 3]
abbrev dktX7_number_2 : List UInt8 := dkwX7_number_2 ++ dktX7_number_3
def dkwX7_number_1 : List UInt8 := [180, 0, 82, 51, 184, 0, 107, 153, 0, 7, 4, 167, 0, 4, 3, 182, 0, 68, 3, 61, 42, 180, 0, 82]
abbrev dktX7_number_1 : List UInt8 := dkwX7_number_1 ++ dktX7_number_2
def dkwX7_number_0 : List UInt8 := [42, 42, 180, 0, 82, 42, 180, 0, 3, 180, 0, 85, 162, 0, 25, 42, 180, 0, 3, 180, 0, 99, 42]
abbrev dktX7_number_0 : List UInt8 := dkwX7_number_0 ++ dktX7_number_1
theorem dksX7_number_0 : cX7_number.data.toList.drop 0 = dktX7_number_0 := by decide +kernel
theorem dksX7_number_1 : cX7_number.data.toList.drop 23 = dktX7_number_1 := dk_seg dksX7_number_0 23 rfl rfl
theorem dksX7_number_2 : cX7_number.data.toList.drop 47 = dktX7_number_2 := dk_seg dksX7_number_1 24 rfl rfl
theorem dksX7_number_3 : cX7_number.data.toList.drop 69 = dktX7_number_3 := dk_seg dksX7_number_2 22 rfl rfl
theorem dksX7_number_4 : cX7_number.data.toList.drop 92 = dktX7_number_4 := dk_seg dksX7_number_3 23 rfl rfl
theorem dX7_number_0 : decode cX7_number 0 = .ok (.aload_n 0, 1) := dk_42 (dk_at dksX7_number_0 0 rfl rfl)
theorem dX7_number_1 : decode cX7_number 1 = .ok (.aload_n 0, 1) := dk_42 (dk_at dksX7_number_0 1 rfl rfl)
theorem dX7_number_2 : decode cX7_number 2 = .ok (.getfield 82, 3) := dk_180 0 82 (dk_at dksX7_number_0 2 rfl rfl)
theorem dX7_number_5 : decode cX7_number 5 = .ok (.aload_n 0, 1) := dk_42 (dk_at dksX7_number_0 5 rfl rfl)
theorem dX7_number_6 : decode cX7_number 6 = .ok (.getfield 3, 3) := dk_180 0 3 (dk_at dksX7_number_0 6 rfl rfl)
theorem dX7_number_9 : decode cX7_number 9 = .ok (.getfield 85, 3) := dk_180 0 85 (dk_at dksX7_number_0 9 rfl rfl)
theorem dX7_number_12 : decode cX7_number 12 = .ok (.if_icmp .ge 25, 3) := dk_162 0 25 (dk_at dksX7_number_0 12 rfl rfl)
theorem dX7_number_15 : decode cX7_number 15 = .ok (.aload_n 0, 1) := dk_42 (dk_at dksX7_number_0 15 rfl rfl)
theorem dX7_number_16 : decode cX7_number 16 = .ok (.getfield 3, 3) := dk_180 0 3 (dk_at dksX7_number_0 16 rfl rfl)
theorem dX7_number_19 : decode cX7_number 19 = .ok (.getfield 99, 3) := dk_180 0 99 (dk_at dksX7_number_0 19 rfl rfl)
theorem dX7_number_22 : decode cX7_number 22 = .ok (.aload_n 0, 1) := dk_42 (dk_at dksX7_number_0 22 rfl rfl)
theorem dX7_number_23 : decode cX7_number 23 = .ok (.getfield 82, 3) := dk_180 0 82 (dk_at dksX7_number_1 0 rfl rfl)
theorem dX7_number_26 : decode cX7_number 26 = .ok (.baload, 1) := dk_51 (dk_at dksX7_number_1 3 rfl rfl)
theorem dX7_number_27 : decode cX7_number 27 = .ok (.invokestatic 107, 3) := dk_184 0 107 (dk_at dksX7_number_1 4 rfl rfl)
theorem dX7_number_30 : decode cX7_number 30 = .ok (.ifCond .eq 7, 3) := dk_153 0 7 (dk_at dksX7_number_1 7 rfl rfl)
theorem dX7_number_33 : decode cX7_number 33 = .ok (.iconst 1, 1) := dk_4 (dk_at dksX7_number_1 10 rfl rfl)
theorem dX7_number_34 : decode cX7_number 34 = .ok (.goto 4, 3) := dk_167 0 4 (dk_at dksX7_number_1 11 rfl rfl)
theorem dX7_number_37 : decode cX7_number 37 = .ok (.iconst 0, 1) := dk_3 (dk_at dksX7_number_1 14 rfl rfl)
theorem dX7_number_38 : decode cX7_number 38 = .ok (.invokevirtual 68, 3) := dk_182 0 68 (dk_at dksX7_number_1 15 rfl rfl)
theorem dX7_number_41 : decode cX7_number 41 = .ok (.iconst 0, 1) := dk_3 (dk_at dksX7_number_1 18 rfl rfl)
theorem dX7_number_42 : decode cX7_number 42 = .ok (.istore_n 2, 1) := dk_61 (dk_at dksX7_number_1 19 rfl rfl)
theorem dX7_number_43 : decode cX7_number 43 = .ok (.aload_n 0, 1) := dk_42 (dk_at dksX7_number_1 20 rfl rfl)
theorem dX7_number_44 : decode cX7_number 44 = .ok (.getfield 82, 3) := dk_180 0 82 (dk_at dksX7_number_1 21 rfl rfl)
theorem dX7_number_47 : decode cX7_number 47 = .ok (.istore_n 3, 1) := dk_62 (dk_at dksX7_number_2 0 rfl rfl)
theorem dX7_number_48 : decode cX7_number 48 = .ok (.iload_n 3, 1) := dk_29 (dk_at dksX7_number_2 1 rfl rfl)
theorem dX7_number_49 : decode cX7_number 49 = .ok (.aload_n 0, 1) := dk_42 (dk_at dksX7_number_2 2 rfl rfl)
theorem dX7_number_50 : decode cX7_number 50 = .ok (.getfield 52, 3) := dk_180 0 52 (dk_at dksX7_number_2 3 rfl rfl)
theorem dX7_number_53 : decode cX7_number 53 = .ok (.if_icmp .ge 32, 3) := dk_162 0 32 (dk_at dksX7_number_2 6 rfl rfl)
theorem dX7_number_56 : decode cX7_number 56 = .ok (.iload_n 2, 1) := dk_28 (dk_at dksX7_number_2 9 rfl rfl)
theorem dX7_number_57 : decode cX7_number 57 = .ok (.iload_n 1, 1) := dk_27 (dk_at dksX7_number_2 10 rfl rfl)
theorem dX7_number_58 : decode cX7_number 58 = .ok (.if_icmp .gt 27, 3) := dk_163 0 27 (dk_at dksX7_number_2 11 rfl rfl)
theorem dX7_number_61 : decode cX7_number 61 = .ok (.bipush 10, 2) := dk_16 10 (dk_at dksX7_number_2 14 rfl rfl)
theorem dX7_number_63 : decode cX7_number 63 = .ok (.iload_n 2, 1) := dk_28 (dk_at dksX7_number_2 16 rfl rfl)
theorem dX7_number_64 : decode cX7_number 64 = .ok (.imul, 1) := dk_104 (dk_at dksX7_number_2 17 rfl rfl)
theorem dX7_number_65 : decode cX7_number 65 = .ok (.aload_n 0, 1) := dk_42 (dk_at dksX7_number_2 18 rfl rfl)
theorem dX7_number_66 : decode cX7_number 66 = .ok (.getfield 3, 3) := dk_180 0 3 (dk_at dksX7_number_2 19 rfl rfl)
theorem dX7_number_69 : decode cX7_number 69 = .ok (.getfield 99, 3) := dk_180 0 99 (dk_at dksX7_number_3 0 rfl rfl)
theorem dX7_number_72 : decode cX7_number 72 = .ok (.iload_n 3, 1) := dk_29 (dk_at dksX7_number_3 3 rfl rfl)
theorem dX7_number_73 : decode cX7_number 73 = .ok (.baload, 1) := dk_51 (dk_at dksX7_number_3 4 rfl rfl)
theorem dX7_number_74 : decode cX7_number 74 = .ok (.iadd, 1) := dk_96 (dk_at dksX7_number_3 5 rfl rfl)
theorem dX7_number_75 : decode cX7_number 75 = .ok (.bipush 48, 2) := dk_16 48 (dk_at dksX7_number_3 6 rfl rfl)
theorem dX7_number_77 : decode cX7_number 77 = .ok (.isub, 1) := dk_100 (dk_at dksX7_number_3 8 rfl rfl)
theorem dX7_number_78 : decode cX7_number 78 = .ok (.istore_n 2, 1) := dk_61 (dk_at dksX7_number_3 9 rfl rfl)
theorem dX7_number_79 : decode cX7_number 79 = .ok (.iinc 3 1, 3) := dk_132 3 1 (dk_at dksX7_number_3 10 rfl rfl)
theorem dX7_number_82 : decode cX7_number 82 = .ok (.goto (-34), 3) := dk_167 255 222 (dk_at dksX7_number_3 13 rfl rfl)
theorem dX7_number_85 : decode cX7_number 85 = .ok (.aload_n 0, 1) := dk_42 (dk_at dksX7_number_3 16 rfl rfl)
theorem dX7_number_86 : decode cX7_number 86 = .ok (.iload_n 2, 1) := dk_28 (dk_at dksX7_number_3 17 rfl rfl)
theorem dX7_number_87 : decode cX7_number 87 = .ok (.iload_n 1, 1) := dk_27 (dk_at dksX7_number_3 18 rfl rfl)
theorem dX7_number_88 : decode cX7_number 88 = .ok (.if_icmp .gt 7, 3) := dk_163 0 7 (dk_at dksX7_number_3 19 rfl rfl)
theorem dX7_number_91 : decode cX7_number 91 = .ok (.iconst 1, 1) := dk_4 (dk_at dksX7_number_3 22 rfl rfl)
theorem dX7_number_92 : decode cX7_number 92 = .ok (.goto 4, 3) := dk_167 0 4 (dk_at dksX7_number_4 0 rfl rfl)
theorem dX7_number_95 : decode cX7_number 95 = .ok (.iconst 0, 1) := dk_3 (dk_at dksX7_number_4 3 rfl rfl)
theorem dX7_number_96 : decode cX7_number 96 = .ok (.invokevirtual 68, 3) := dk_182 0 68 (dk_at dksX7_number_4 4 rfl rfl)
theorem dX7_number_99 : decode cX7_number 99 = .ok (.aload_n 0, 1) := dk_42 (dk_at dksX7_number_4 7 rfl rfl)
theorem dX7_number_100 : decode cX7_number 100 = .ok (.invokevirtual 65, 3) := dk_182 0 65 (dk_at dksX7_number_4 8 rfl rfl)
theorem dX7_number_103 : decode cX7_number 103 = .ok (.iload_n 2, 1) := dk_28 (dk_at dksX7_number_4 11 rfl rfl)
theorem dX7_number_104 : decode cX7_number 104 = .ok (.ireturn, 1) := dk_172 (dk_at dksX7_number_4 12 rfl rfl)
abbrev cX7_test : ByteArray := prog_14_method_10_code
def yX7_test : MethodName := ⟨RX7, "test", "()LFiveTouch$Test;"⟩
def dkwX7_test_1 : List UInt8 := [182, 0, 143, 182, 0, 146, 167, 255, 239, 42, 3, 27, 182, 0, 152, 176]
abbrev dktX7_test_1 : List UInt8 := dkwX7_test_1 ++ []
def dkwX7_test_0 : List UInt8 := [42, 180, 0, 62, 60, 42, 42, 182, 0, 143, 182, 0, 146, 42, 18, 150, 182, 0, 78, 153, 0, 14, 42, 42]
abbrev dktX7_test_0 : List UInt8 := dkwX7_test_0 ++ dktX7_test_1
theorem dksX7_test_0 : cX7_test.data.toList.drop 0 = dktX7_test_0 := by decide +kernel
theorem dksX7_test_1 : cX7_test.data.toList.drop 24 = dktX7_test_1 := dk_seg dksX7_test_0 24 rfl rfl
theorem dX7_test_0 : decode cX7_test 0 = .ok (.aload_n 0, 1) := dk_42 (dk_at dksX7_test_0 0 rfl rfl)
theorem dX7_test_1 : decode cX7_test 1 = .ok (.getfield 62, 3) := dk_180 0 62 (dk_at dksX7_test_0 1 rfl rfl)
theorem dX7_test_4 : decode cX7_test 4 = .ok (.istore_n 1, 1) := dk_60 (dk_at dksX7_test_0 4 rfl rfl)
theorem dX7_test_5 : decode cX7_test 5 = .ok (.aload_n 0, 1) := dk_42 (dk_at dksX7_test_0 5 rfl rfl)
theorem dX7_test_6 : decode cX7_test 6 = .ok (.aload_n 0, 1) := dk_42 (dk_at dksX7_test_0 6 rfl rfl)
theorem dX7_test_7 : decode cX7_test 7 = .ok (.invokevirtual 143, 3) := dk_182 0 143 (dk_at dksX7_test_0 7 rfl rfl)
theorem dX7_test_10 : decode cX7_test 10 = .ok (.invokevirtual 146, 3) := dk_182 0 146 (dk_at dksX7_test_0 10 rfl rfl)
theorem dX7_test_13 : decode cX7_test 13 = .ok (.aload_n 0, 1) := dk_42 (dk_at dksX7_test_0 13 rfl rfl)
theorem dX7_test_14 : decode cX7_test 14 = .ok (.ldc 150, 2) := dk_18 150 (dk_at dksX7_test_0 14 rfl rfl)
theorem dX7_test_16 : decode cX7_test 16 = .ok (.invokevirtual 78, 3) := dk_182 0 78 (dk_at dksX7_test_0 16 rfl rfl)
theorem dX7_test_19 : decode cX7_test 19 = .ok (.ifCond .eq 14, 3) := dk_153 0 14 (dk_at dksX7_test_0 19 rfl rfl)
theorem dX7_test_22 : decode cX7_test 22 = .ok (.aload_n 0, 1) := dk_42 (dk_at dksX7_test_0 22 rfl rfl)
theorem dX7_test_23 : decode cX7_test 23 = .ok (.aload_n 0, 1) := dk_42 (dk_at dksX7_test_0 23 rfl rfl)
theorem dX7_test_24 : decode cX7_test 24 = .ok (.invokevirtual 143, 3) := dk_182 0 143 (dk_at dksX7_test_1 0 rfl rfl)
theorem dX7_test_27 : decode cX7_test 27 = .ok (.invokevirtual 146, 3) := dk_182 0 146 (dk_at dksX7_test_1 3 rfl rfl)
theorem dX7_test_30 : decode cX7_test 30 = .ok (.goto (-17), 3) := dk_167 255 239 (dk_at dksX7_test_1 6 rfl rfl)
theorem dX7_test_33 : decode cX7_test 33 = .ok (.aload_n 0, 1) := dk_42 (dk_at dksX7_test_1 9 rfl rfl)
theorem dX7_test_34 : decode cX7_test 34 = .ok (.iconst 0, 1) := dk_3 (dk_at dksX7_test_1 10 rfl rfl)
theorem dX7_test_35 : decode cX7_test 35 = .ok (.iload_n 1, 1) := dk_27 (dk_at dksX7_test_1 11 rfl rfl)
theorem dX7_test_36 : decode cX7_test 36 = .ok (.invokevirtual 152, 3) := dk_182 0 152 (dk_at dksX7_test_1 12 rfl rfl)
theorem dX7_test_39 : decode cX7_test 39 = .ok (.areturn, 1) := dk_176 (dk_at dksX7_test_1 15 rfl rfl)
abbrev cX7_both : ByteArray := prog_14_method_11_code
def yX7_both : MethodName := ⟨RX7, "both", "()LFiveTouch$Test;"⟩
def dkwX7_both_1 : List UInt8 := [182, 0, 156, 182, 0, 146, 167, 255, 239, 42, 4, 27, 182, 0, 152, 176]
abbrev dktX7_both_1 : List UInt8 := dkwX7_both_1 ++ []
def dkwX7_both_0 : List UInt8 := [42, 180, 0, 62, 60, 42, 42, 182, 0, 156, 182, 0, 146, 42, 18, 159, 182, 0, 78, 153, 0, 14, 42, 42]
abbrev dktX7_both_0 : List UInt8 := dkwX7_both_0 ++ dktX7_both_1
theorem dksX7_both_0 : cX7_both.data.toList.drop 0 = dktX7_both_0 := by decide +kernel
theorem dksX7_both_1 : cX7_both.data.toList.drop 24 = dktX7_both_1 := dk_seg dksX7_both_0 24 rfl rfl
theorem dX7_both_0 : decode cX7_both 0 = .ok (.aload_n 0, 1) := dk_42 (dk_at dksX7_both_0 0 rfl rfl)
theorem dX7_both_1 : decode cX7_both 1 = .ok (.getfield 62, 3) := dk_180 0 62 (dk_at dksX7_both_0 1 rfl rfl)
theorem dX7_both_4 : decode cX7_both 4 = .ok (.istore_n 1, 1) := dk_60 (dk_at dksX7_both_0 4 rfl rfl)
theorem dX7_both_5 : decode cX7_both 5 = .ok (.aload_n 0, 1) := dk_42 (dk_at dksX7_both_0 5 rfl rfl)
theorem dX7_both_6 : decode cX7_both 6 = .ok (.aload_n 0, 1) := dk_42 (dk_at dksX7_both_0 6 rfl rfl)
theorem dX7_both_7 : decode cX7_both 7 = .ok (.invokevirtual 156, 3) := dk_182 0 156 (dk_at dksX7_both_0 7 rfl rfl)
theorem dX7_both_10 : decode cX7_both 10 = .ok (.invokevirtual 146, 3) := dk_182 0 146 (dk_at dksX7_both_0 10 rfl rfl)
theorem dX7_both_13 : decode cX7_both 13 = .ok (.aload_n 0, 1) := dk_42 (dk_at dksX7_both_0 13 rfl rfl)
theorem dX7_both_14 : decode cX7_both 14 = .ok (.ldc 159, 2) := dk_18 159 (dk_at dksX7_both_0 14 rfl rfl)
theorem dX7_both_16 : decode cX7_both 16 = .ok (.invokevirtual 78, 3) := dk_182 0 78 (dk_at dksX7_both_0 16 rfl rfl)
theorem dX7_both_19 : decode cX7_both 19 = .ok (.ifCond .eq 14, 3) := dk_153 0 14 (dk_at dksX7_both_0 19 rfl rfl)
theorem dX7_both_22 : decode cX7_both 22 = .ok (.aload_n 0, 1) := dk_42 (dk_at dksX7_both_0 22 rfl rfl)
theorem dX7_both_23 : decode cX7_both 23 = .ok (.aload_n 0, 1) := dk_42 (dk_at dksX7_both_0 23 rfl rfl)
theorem dX7_both_24 : decode cX7_both 24 = .ok (.invokevirtual 156, 3) := dk_182 0 156 (dk_at dksX7_both_1 0 rfl rfl)
theorem dX7_both_27 : decode cX7_both 27 = .ok (.invokevirtual 146, 3) := dk_182 0 146 (dk_at dksX7_both_1 3 rfl rfl)
theorem dX7_both_30 : decode cX7_both 30 = .ok (.goto (-17), 3) := dk_167 255 239 (dk_at dksX7_both_1 6 rfl rfl)
theorem dX7_both_33 : decode cX7_both 33 = .ok (.aload_n 0, 1) := dk_42 (dk_at dksX7_both_1 9 rfl rfl)
theorem dX7_both_34 : decode cX7_both 34 = .ok (.iconst 1, 1) := dk_4 (dk_at dksX7_both_1 10 rfl rfl)
theorem dX7_both_35 : decode cX7_both 35 = .ok (.iload_n 1, 1) := dk_27 (dk_at dksX7_both_1 11 rfl rfl)
theorem dX7_both_36 : decode cX7_both 36 = .ok (.invokevirtual 152, 3) := dk_182 0 152 (dk_at dksX7_both_1 12 rfl rfl)
theorem dX7_both_39 : decode cX7_both 39 = .ok (.areturn, 1) := dk_176 (dk_at dksX7_both_1 15 rfl rfl)
abbrev cX7_plain : ByteArray := prog_14_method_17_code
def yX7_plain : MethodName := ⟨RX7, "plain", "()LFiveTouch$Test;"⟩
def dkwX7_plain_5 : List UInt8 := [182, 0, 130, 183, 0, 187, 77, 27, 153, 0, 14, 187, 0, 190, 89, 44, 183, 0, 192, 167, 0, 4, 44, 176]
abbrev dktX7_plain_5 : List UInt8 := dkwX7_plain_5 ++ []
def dkwX7_plain_4 : List UInt8 := [180, 0, 99, 42, 180, 0, 82, 51, 54, 4, 42, 182, 0, 65, 187, 0, 185, 89, 45, 21, 4, 42]
abbrev dktX7_plain_4 : List UInt8 := dkwX7_plain_4 ++ dktX7_plain_5
def dkwX7_plain_3 : List UInt8 := [154, 0, 12, 42, 18, 183, 182, 0, 118, 153, 0, 7, 4, 167, 0, 4, 3, 182, 0, 68, 42, 180, 0, 3]
abbrev dktX7_plain_3 : List UInt8 := dkwX7_plain_3 ++ dktX7_plain_4
def dkwX7_plain_2 : List UInt8 := [167, 0, 77, 42, 182, 0, 130, 78, 42, 42, 18, 179, 182, 0, 118, 154, 0, 21, 42, 18, 181, 182, 0, 118]
abbrev dktX7_plain_2 : List UInt8 := dkwX7_plain_2 ++ dktX7_plain_3
def dkwX7_plain_1 : List UInt8 := [42, 18, 168, 182, 0, 118, 153, 0, 21, 42, 182, 0, 170, 42, 182, 0, 136, 77, 42, 18, 173, 182, 0, 175]
abbrev dktX7_plain_1 : List UInt8 := dkwX7_plain_1 ++ dktX7_plain_2
def dkwX7_plain_0 : List UInt8 := [3, 60, 42, 18, 166, 182, 0, 78, 153, 0, 16, 27, 154, 0, 7, 4, 167, 0, 4, 3, 60, 167, 255, 237]
abbrev dktX7_plain_0 : List UInt8 := dkwX7_plain_0 ++ dktX7_plain_1
theorem dksX7_plain_0 : cX7_plain.data.toList.drop 0 = dktX7_plain_0 := by decide +kernel
theorem dksX7_plain_1 : cX7_plain.data.toList.drop 24 = dktX7_plain_1 := dk_seg dksX7_plain_0 24 rfl rfl
theorem dksX7_plain_2 : cX7_plain.data.toList.drop 48 = dktX7_plain_2 := dk_seg dksX7_plain_1 24 rfl rfl
theorem dksX7_plain_3 : cX7_plain.data.toList.drop 72 = dktX7_plain_3 := dk_seg dksX7_plain_2 24 rfl rfl
theorem dksX7_plain_4 : cX7_plain.data.toList.drop 96 = dktX7_plain_4 := dk_seg dksX7_plain_3 24 rfl rfl
theorem dksX7_plain_5 : cX7_plain.data.toList.drop 118 = dktX7_plain_5 := dk_seg dksX7_plain_4 22 rfl rfl
theorem dX7_plain_0 : decode cX7_plain 0 = .ok (.iconst 0, 1) := dk_3 (dk_at dksX7_plain_0 0 rfl rfl)
theorem dX7_plain_1 : decode cX7_plain 1 = .ok (.istore_n 1, 1) := dk_60 (dk_at dksX7_plain_0 1 rfl rfl)
theorem dX7_plain_2 : decode cX7_plain 2 = .ok (.aload_n 0, 1) := dk_42 (dk_at dksX7_plain_0 2 rfl rfl)
theorem dX7_plain_3 : decode cX7_plain 3 = .ok (.ldc 166, 2) := dk_18 166 (dk_at dksX7_plain_0 3 rfl rfl)
theorem dX7_plain_5 : decode cX7_plain 5 = .ok (.invokevirtual 78, 3) := dk_182 0 78 (dk_at dksX7_plain_0 5 rfl rfl)
theorem dX7_plain_8 : decode cX7_plain 8 = .ok (.ifCond .eq 16, 3) := dk_153 0 16 (dk_at dksX7_plain_0 8 rfl rfl)
theorem dX7_plain_11 : decode cX7_plain 11 = .ok (.iload_n 1, 1) := dk_27 (dk_at dksX7_plain_0 11 rfl rfl)
theorem dX7_plain_12 : decode cX7_plain 12 = .ok (.ifCond .ne 7, 3) := dk_154 0 7 (dk_at dksX7_plain_0 12 rfl rfl)
theorem dX7_plain_15 : decode cX7_plain 15 = .ok (.iconst 1, 1) := dk_4 (dk_at dksX7_plain_0 15 rfl rfl)
theorem dX7_plain_16 : decode cX7_plain 16 = .ok (.goto 4, 3) := dk_167 0 4 (dk_at dksX7_plain_0 16 rfl rfl)
theorem dX7_plain_19 : decode cX7_plain 19 = .ok (.iconst 0, 1) := dk_3 (dk_at dksX7_plain_0 19 rfl rfl)
theorem dX7_plain_20 : decode cX7_plain 20 = .ok (.istore_n 1, 1) := dk_60 (dk_at dksX7_plain_0 20 rfl rfl)
theorem dX7_plain_21 : decode cX7_plain 21 = .ok (.goto (-19), 3) := dk_167 255 237 (dk_at dksX7_plain_0 21 rfl rfl)
theorem dX7_plain_24 : decode cX7_plain 24 = .ok (.aload_n 0, 1) := dk_42 (dk_at dksX7_plain_1 0 rfl rfl)
theorem dX7_plain_25 : decode cX7_plain 25 = .ok (.ldc 168, 2) := dk_18 168 (dk_at dksX7_plain_1 1 rfl rfl)
theorem dX7_plain_27 : decode cX7_plain 27 = .ok (.invokevirtual 118, 3) := dk_182 0 118 (dk_at dksX7_plain_1 3 rfl rfl)
theorem dX7_plain_30 : decode cX7_plain 30 = .ok (.ifCond .eq 21, 3) := dk_153 0 21 (dk_at dksX7_plain_1 6 rfl rfl)
theorem dX7_plain_33 : decode cX7_plain 33 = .ok (.aload_n 0, 1) := dk_42 (dk_at dksX7_plain_1 9 rfl rfl)
theorem dX7_plain_34 : decode cX7_plain 34 = .ok (.invokevirtual 170, 3) := dk_182 0 170 (dk_at dksX7_plain_1 10 rfl rfl)
theorem dX7_plain_37 : decode cX7_plain 37 = .ok (.aload_n 0, 1) := dk_42 (dk_at dksX7_plain_1 13 rfl rfl)
theorem dX7_plain_38 : decode cX7_plain 38 = .ok (.invokevirtual 136, 3) := dk_182 0 136 (dk_at dksX7_plain_1 14 rfl rfl)
theorem dX7_plain_41 : decode cX7_plain 41 = .ok (.astore_n 2, 1) := dk_77 (dk_at dksX7_plain_1 17 rfl rfl)
theorem dX7_plain_42 : decode cX7_plain 42 = .ok (.aload_n 0, 1) := dk_42 (dk_at dksX7_plain_1 18 rfl rfl)
theorem dX7_plain_43 : decode cX7_plain 43 = .ok (.ldc 173, 2) := dk_18 173 (dk_at dksX7_plain_1 19 rfl rfl)
theorem dX7_plain_45 : decode cX7_plain 45 = .ok (.invokevirtual 175, 3) := dk_182 0 175 (dk_at dksX7_plain_1 21 rfl rfl)
theorem dX7_plain_48 : decode cX7_plain 48 = .ok (.goto 77, 3) := dk_167 0 77 (dk_at dksX7_plain_2 0 rfl rfl)
theorem dX7_plain_51 : decode cX7_plain 51 = .ok (.aload_n 0, 1) := dk_42 (dk_at dksX7_plain_2 3 rfl rfl)
theorem dX7_plain_52 : decode cX7_plain 52 = .ok (.invokevirtual 130, 3) := dk_182 0 130 (dk_at dksX7_plain_2 4 rfl rfl)
theorem dX7_plain_55 : decode cX7_plain 55 = .ok (.astore_n 3, 1) := dk_78 (dk_at dksX7_plain_2 7 rfl rfl)
theorem dX7_plain_56 : decode cX7_plain 56 = .ok (.aload_n 0, 1) := dk_42 (dk_at dksX7_plain_2 8 rfl rfl)
theorem dX7_plain_57 : decode cX7_plain 57 = .ok (.aload_n 0, 1) := dk_42 (dk_at dksX7_plain_2 9 rfl rfl)
theorem dX7_plain_58 : decode cX7_plain 58 = .ok (.ldc 179, 2) := dk_18 179 (dk_at dksX7_plain_2 10 rfl rfl)
theorem dX7_plain_60 : decode cX7_plain 60 = .ok (.invokevirtual 118, 3) := dk_182 0 118 (dk_at dksX7_plain_2 12 rfl rfl)
theorem dX7_plain_63 : decode cX7_plain 63 = .ok (.ifCond .ne 21, 3) := dk_154 0 21 (dk_at dksX7_plain_2 15 rfl rfl)
theorem dX7_plain_66 : decode cX7_plain 66 = .ok (.aload_n 0, 1) := dk_42 (dk_at dksX7_plain_2 18 rfl rfl)
theorem dX7_plain_67 : decode cX7_plain 67 = .ok (.ldc 181, 2) := dk_18 181 (dk_at dksX7_plain_2 19 rfl rfl)
theorem dX7_plain_69 : decode cX7_plain 69 = .ok (.invokevirtual 118, 3) := dk_182 0 118 (dk_at dksX7_plain_2 21 rfl rfl)
theorem dX7_plain_72 : decode cX7_plain 72 = .ok (.ifCond .ne 12, 3) := dk_154 0 12 (dk_at dksX7_plain_3 0 rfl rfl)
theorem dX7_plain_75 : decode cX7_plain 75 = .ok (.aload_n 0, 1) := dk_42 (dk_at dksX7_plain_3 3 rfl rfl)
theorem dX7_plain_76 : decode cX7_plain 76 = .ok (.ldc 183, 2) := dk_18 183 (dk_at dksX7_plain_3 4 rfl rfl)
theorem dX7_plain_78 : decode cX7_plain 78 = .ok (.invokevirtual 118, 3) := dk_182 0 118 (dk_at dksX7_plain_3 6 rfl rfl)
theorem dX7_plain_81 : decode cX7_plain 81 = .ok (.ifCond .eq 7, 3) := dk_153 0 7 (dk_at dksX7_plain_3 9 rfl rfl)
theorem dX7_plain_84 : decode cX7_plain 84 = .ok (.iconst 1, 1) := dk_4 (dk_at dksX7_plain_3 12 rfl rfl)
theorem dX7_plain_85 : decode cX7_plain 85 = .ok (.goto 4, 3) := dk_167 0 4 (dk_at dksX7_plain_3 13 rfl rfl)
theorem dX7_plain_88 : decode cX7_plain 88 = .ok (.iconst 0, 1) := dk_3 (dk_at dksX7_plain_3 16 rfl rfl)
theorem dX7_plain_89 : decode cX7_plain 89 = .ok (.invokevirtual 68, 3) := dk_182 0 68 (dk_at dksX7_plain_3 17 rfl rfl)
theorem dX7_plain_92 : decode cX7_plain 92 = .ok (.aload_n 0, 1) := dk_42 (dk_at dksX7_plain_3 20 rfl rfl)
theorem dX7_plain_93 : decode cX7_plain 93 = .ok (.getfield 3, 3) := dk_180 0 3 (dk_at dksX7_plain_3 21 rfl rfl)
theorem dX7_plain_96 : decode cX7_plain 96 = .ok (.getfield 99, 3) := dk_180 0 99 (dk_at dksX7_plain_4 0 rfl rfl)
theorem dX7_plain_99 : decode cX7_plain 99 = .ok (.aload_n 0, 1) := dk_42 (dk_at dksX7_plain_4 3 rfl rfl)
theorem dX7_plain_100 : decode cX7_plain 100 = .ok (.getfield 82, 3) := dk_180 0 82 (dk_at dksX7_plain_4 4 rfl rfl)
theorem dX7_plain_103 : decode cX7_plain 103 = .ok (.baload, 1) := dk_51 (dk_at dksX7_plain_4 7 rfl rfl)
theorem dX7_plain_104 : decode cX7_plain 104 = .ok (.istore 4, 2) := dk_54 4 (dk_at dksX7_plain_4 8 rfl rfl)
theorem dX7_plain_106 : decode cX7_plain 106 = .ok (.aload_n 0, 1) := dk_42 (dk_at dksX7_plain_4 10 rfl rfl)
theorem dX7_plain_107 : decode cX7_plain 107 = .ok (.invokevirtual 65, 3) := dk_182 0 65 (dk_at dksX7_plain_4 11 rfl rfl)
theorem dX7_plain_110 : decode cX7_plain 110 = .ok (.new 185, 3) := dk_187 0 185 (dk_at dksX7_plain_4 14 rfl rfl)
theorem dX7_plain_113 : decode cX7_plain 113 = .ok (.dup, 1) := dk_89 (dk_at dksX7_plain_4 17 rfl rfl)
theorem dX7_plain_114 : decode cX7_plain 114 = .ok (.aload_n 3, 1) := dk_45 (dk_at dksX7_plain_4 18 rfl rfl)
theorem dX7_plain_115 : decode cX7_plain 115 = .ok (.iload 4, 2) := dk_21 4 (dk_at dksX7_plain_4 19 rfl rfl)
theorem dX7_plain_117 : decode cX7_plain 117 = .ok (.aload_n 0, 1) := dk_42 (dk_at dksX7_plain_4 21 rfl rfl)
theorem dX7_plain_118 : decode cX7_plain 118 = .ok (.invokevirtual 130, 3) := dk_182 0 130 (dk_at dksX7_plain_5 0 rfl rfl)
theorem dX7_plain_121 : decode cX7_plain 121 = .ok (.invokespecial 187, 3) := dk_183 0 187 (dk_at dksX7_plain_5 3 rfl rfl)
theorem dX7_plain_124 : decode cX7_plain 124 = .ok (.astore_n 2, 1) := dk_77 (dk_at dksX7_plain_5 6 rfl rfl)
theorem dX7_plain_125 : decode cX7_plain 125 = .ok (.iload_n 1, 1) := dk_27 (dk_at dksX7_plain_5 7 rfl rfl)
theorem dX7_plain_126 : decode cX7_plain 126 = .ok (.ifCond .eq 14, 3) := dk_153 0 14 (dk_at dksX7_plain_5 8 rfl rfl)
theorem dX7_plain_129 : decode cX7_plain 129 = .ok (.new 190, 3) := dk_187 0 190 (dk_at dksX7_plain_5 11 rfl rfl)
theorem dX7_plain_132 : decode cX7_plain 132 = .ok (.dup, 1) := dk_89 (dk_at dksX7_plain_5 14 rfl rfl)
theorem dX7_plain_133 : decode cX7_plain 133 = .ok (.aload_n 2, 1) := dk_44 (dk_at dksX7_plain_5 15 rfl rfl)
theorem dX7_plain_134 : decode cX7_plain 134 = .ok (.invokespecial 192, 3) := dk_183 0 192 (dk_at dksX7_plain_5 16 rfl rfl)
theorem dX7_plain_137 : decode cX7_plain 137 = .ok (.goto 4, 3) := dk_167 0 4 (dk_at dksX7_plain_5 19 rfl rfl)
theorem dX7_plain_140 : decode cX7_plain 140 = .ok (.aload_n 2, 1) := dk_44 (dk_at dksX7_plain_5 22 rfl rfl)
theorem dX7_plain_141 : decode cX7_plain 141 = .ok (.areturn, 1) := dk_176 (dk_at dksX7_plain_5 23 rfl rfl)
abbrev cX7_add : ByteArray := prog_14_method_12_code
def yX7_add : MethodName := ⟨RX7, "add", "(LFiveTouch$Test;)V"⟩
def dkwX7_add_0 : List UInt8 := [42, 180, 0, 17, 42, 180, 0, 62, 43, 83, 42, 89, 180, 0, 62, 4, 96, 181, 0, 62, 177]
abbrev dktX7_add_0 : List UInt8 := dkwX7_add_0 ++ []
theorem dksX7_add_0 : cX7_add.data.toList.drop 0 = dktX7_add_0 := by decide +kernel
theorem dX7_add_0 : decode cX7_add 0 = .ok (.aload_n 0, 1) := dk_42 (dk_at dksX7_add_0 0 rfl rfl)
theorem dX7_add_1 : decode cX7_add 1 = .ok (.getfield 17, 3) := dk_180 0 17 (dk_at dksX7_add_0 1 rfl rfl)
theorem dX7_add_4 : decode cX7_add 4 = .ok (.aload_n 0, 1) := dk_42 (dk_at dksX7_add_0 4 rfl rfl)
theorem dX7_add_5 : decode cX7_add 5 = .ok (.getfield 62, 3) := dk_180 0 62 (dk_at dksX7_add_0 5 rfl rfl)
theorem dX7_add_8 : decode cX7_add 8 = .ok (.aload_n 1, 1) := dk_43 (dk_at dksX7_add_0 8 rfl rfl)
theorem dX7_add_9 : decode cX7_add 9 = .ok (.aastore, 1) := dk_83 (dk_at dksX7_add_0 9 rfl rfl)
theorem dX7_add_10 : decode cX7_add 10 = .ok (.aload_n 0, 1) := dk_42 (dk_at dksX7_add_0 10 rfl rfl)
theorem dX7_add_11 : decode cX7_add 11 = .ok (.dup, 1) := dk_89 (dk_at dksX7_add_0 11 rfl rfl)
theorem dX7_add_12 : decode cX7_add 12 = .ok (.getfield 62, 3) := dk_180 0 62 (dk_at dksX7_add_0 12 rfl rfl)
theorem dX7_add_15 : decode cX7_add 15 = .ok (.iconst 1, 1) := dk_4 (dk_at dksX7_add_0 15 rfl rfl)
theorem dX7_add_16 : decode cX7_add 16 = .ok (.iadd, 1) := dk_96 (dk_at dksX7_add_0 16 rfl rfl)
theorem dX7_add_17 : decode cX7_add 17 = .ok (.putfield 62, 3) := dk_181 0 62 (dk_at dksX7_add_0 17 rfl rfl)
theorem dX7_add_20 : decode cX7_add 20 = .ok (.return_, 1) := dk_177 (dk_at dksX7_add_0 20 rfl rfl)
abbrev cX7_row : ByteArray := prog_14_method_13_code
def yX7_row : MethodName := ⟨RX7, "row", "(ZI)LFiveTouch$Test;"⟩
def dkwX7_row_2 : List UInt8 := [25, 4, 183, 0, 163, 78, 42, 28, 181, 0, 62, 45, 176]
abbrev dktX7_row_2 : List UInt8 := dkwX7_row_2 ++ []
def dkwX7_row_1 : List UInt8 := [189, 0, 15, 58, 4, 42, 180, 0, 17, 28, 25, 4, 3, 25, 4, 190, 184, 0, 88, 187, 0, 161, 89, 27]
abbrev dktX7_row_1 : List UInt8 := dkwX7_row_1 ++ dktX7_row_2
def dkwX7_row_0 : List UInt8 := [42, 180, 0, 17, 28, 50, 78, 42, 180, 0, 62, 28, 100, 4, 164, 0, 39, 42, 180, 0, 62, 28, 100]
abbrev dktX7_row_0 : List UInt8 := dkwX7_row_0 ++ dktX7_row_1
theorem dksX7_row_0 : cX7_row.data.toList.drop 0 = dktX7_row_0 := by decide +kernel
theorem dksX7_row_1 : cX7_row.data.toList.drop 23 = dktX7_row_1 := dk_seg dksX7_row_0 23 rfl rfl
theorem dksX7_row_2 : cX7_row.data.toList.drop 47 = dktX7_row_2 := dk_seg dksX7_row_1 24 rfl rfl
theorem dX7_row_0 : decode cX7_row 0 = .ok (.aload_n 0, 1) := dk_42 (dk_at dksX7_row_0 0 rfl rfl)
theorem dX7_row_1 : decode cX7_row 1 = .ok (.getfield 17, 3) := dk_180 0 17 (dk_at dksX7_row_0 1 rfl rfl)
theorem dX7_row_4 : decode cX7_row 4 = .ok (.iload_n 2, 1) := dk_28 (dk_at dksX7_row_0 4 rfl rfl)
theorem dX7_row_5 : decode cX7_row 5 = .ok (.aaload, 1) := dk_50 (dk_at dksX7_row_0 5 rfl rfl)
theorem dX7_row_6 : decode cX7_row 6 = .ok (.astore_n 3, 1) := dk_78 (dk_at dksX7_row_0 6 rfl rfl)
theorem dX7_row_7 : decode cX7_row 7 = .ok (.aload_n 0, 1) := dk_42 (dk_at dksX7_row_0 7 rfl rfl)
theorem dX7_row_8 : decode cX7_row 8 = .ok (.getfield 62, 3) := dk_180 0 62 (dk_at dksX7_row_0 8 rfl rfl)
theorem dX7_row_11 : decode cX7_row 11 = .ok (.iload_n 2, 1) := dk_28 (dk_at dksX7_row_0 11 rfl rfl)
theorem dX7_row_12 : decode cX7_row 12 = .ok (.isub, 1) := dk_100 (dk_at dksX7_row_0 12 rfl rfl)
theorem dX7_row_13 : decode cX7_row 13 = .ok (.iconst 1, 1) := dk_4 (dk_at dksX7_row_0 13 rfl rfl)
theorem dX7_row_14 : decode cX7_row 14 = .ok (.if_icmp .le 39, 3) := dk_164 0 39 (dk_at dksX7_row_0 14 rfl rfl)
theorem dX7_row_17 : decode cX7_row 17 = .ok (.aload_n 0, 1) := dk_42 (dk_at dksX7_row_0 17 rfl rfl)
theorem dX7_row_18 : decode cX7_row 18 = .ok (.getfield 62, 3) := dk_180 0 62 (dk_at dksX7_row_0 18 rfl rfl)
theorem dX7_row_21 : decode cX7_row 21 = .ok (.iload_n 2, 1) := dk_28 (dk_at dksX7_row_0 21 rfl rfl)
theorem dX7_row_22 : decode cX7_row 22 = .ok (.isub, 1) := dk_100 (dk_at dksX7_row_0 22 rfl rfl)
theorem dX7_row_23 : decode cX7_row 23 = .ok (.anewarray 15, 3) := dk_189 0 15 (dk_at dksX7_row_1 0 rfl rfl)
theorem dX7_row_26 : decode cX7_row 26 = .ok (.astore 4, 2) := dk_58 4 (dk_at dksX7_row_1 3 rfl rfl)
theorem dX7_row_28 : decode cX7_row 28 = .ok (.aload_n 0, 1) := dk_42 (dk_at dksX7_row_1 5 rfl rfl)
theorem dX7_row_29 : decode cX7_row 29 = .ok (.getfield 17, 3) := dk_180 0 17 (dk_at dksX7_row_1 6 rfl rfl)
theorem dX7_row_32 : decode cX7_row 32 = .ok (.iload_n 2, 1) := dk_28 (dk_at dksX7_row_1 9 rfl rfl)
theorem dX7_row_33 : decode cX7_row 33 = .ok (.aload 4, 2) := dk_25 4 (dk_at dksX7_row_1 10 rfl rfl)
theorem dX7_row_35 : decode cX7_row 35 = .ok (.iconst 0, 1) := dk_3 (dk_at dksX7_row_1 12 rfl rfl)
theorem dX7_row_36 : decode cX7_row 36 = .ok (.aload 4, 2) := dk_25 4 (dk_at dksX7_row_1 13 rfl rfl)
theorem dX7_row_38 : decode cX7_row 38 = .ok (.arraylength, 1) := dk_190 (dk_at dksX7_row_1 15 rfl rfl)
theorem dX7_row_39 : decode cX7_row 39 = .ok (.invokestatic 88, 3) := dk_184 0 88 (dk_at dksX7_row_1 16 rfl rfl)
theorem dX7_row_42 : decode cX7_row 42 = .ok (.new 161, 3) := dk_187 0 161 (dk_at dksX7_row_1 19 rfl rfl)
theorem dX7_row_45 : decode cX7_row 45 = .ok (.dup, 1) := dk_89 (dk_at dksX7_row_1 22 rfl rfl)
theorem dX7_row_46 : decode cX7_row 46 = .ok (.iload_n 1, 1) := dk_27 (dk_at dksX7_row_1 23 rfl rfl)
theorem dX7_row_47 : decode cX7_row 47 = .ok (.aload 4, 2) := dk_25 4 (dk_at dksX7_row_2 0 rfl rfl)
theorem dX7_row_49 : decode cX7_row 49 = .ok (.invokespecial 163, 3) := dk_183 0 163 (dk_at dksX7_row_2 2 rfl rfl)
theorem dX7_row_52 : decode cX7_row 52 = .ok (.astore_n 3, 1) := dk_78 (dk_at dksX7_row_2 5 rfl rfl)
theorem dX7_row_53 : decode cX7_row 53 = .ok (.aload_n 0, 1) := dk_42 (dk_at dksX7_row_2 6 rfl rfl)
theorem dX7_row_54 : decode cX7_row 54 = .ok (.iload_n 2, 1) := dk_28 (dk_at dksX7_row_2 7 rfl rfl)
theorem dX7_row_55 : decode cX7_row 55 = .ok (.putfield 62, 3) := dk_181 0 62 (dk_at dksX7_row_2 8 rfl rfl)
theorem dX7_row_58 : decode cX7_row 58 = .ok (.aload_n 3, 1) := dk_45 (dk_at dksX7_row_2 11 rfl rfl)
theorem dX7_row_59 : decode cX7_row 59 = .ok (.areturn, 1) := dk_176 (dk_at dksX7_row_2 12 rfl rfl)
theorem q108 : (Jvm.Cond.initialized "FiveTouch$Reader") ∈ lw_all := lw_g (lw_at lw_m1 23 rfl) rfl
theorem q279 : (Jvm.Cond.fieldLinkNest "FiveTouch$Reader" (99 : Nat) "FiveTouch" "tape" "[B" "FiveTouch") ∈ lw_tbl := lw_at lw_m1 194 rfl
theorem q281 : (Jvm.Cond.fieldLinkNest "FiveTouch$Reader" (85 : Nat) "FiveTouch" "taped" "I" "FiveTouch") ∈ lw_tbl := lw_at lw_m1 196 rfl
theorem q475 : (Jvm.Cond.selects "FiveTouch$Reader" ({ cls := "java/lang/Object", name := "getClass", desc := "()Ljava/lang/Class;" } : Jvm.MethodName) ({ cls := "java/lang/Object", name := "getClass", desc := "()Ljava/lang/Class;" } : Jvm.MethodName)) ∈ lw_all := lw_g (lw_at lw_m2 150 rfl) rfl
theorem q629 : (Jvm.Cond.instantiable "FiveTouch$Reader" (9 : Nat)) ∈ lw_all := lw_g (lw_at lw_m3 64 rfl) rfl
theorem q631 : (Jvm.Cond.instanceMethod ({ cls := "FiveTouch$Reader", name := "<init>", desc := "(LFiveTouch;)V" } : Jvm.MethodName)) ∈ lw_all := lw_g (lw_at lw_m3 66 rfl) rfl
theorem q632 : (Jvm.Cond.code ({ cls := "FiveTouch$Reader", name := "<init>", desc := "(LFiveTouch;)V" } : Jvm.MethodName) prog_14_method_1_code (2 : Nat) (Option.none : Option Jvm.ClassFile.FieldType)) ∈ lw_all := lw_g (lw_at lw_m3 67 rfl) rfl
theorem q633 : (Jvm.Cond.methodLink "FiveTouch$Reader" (9 : Nat) ({ cls := "java/lang/Object", name := "<init>", desc := "()V" } : Jvm.MethodName)) ∈ lw_all := lw_g (lw_at lw_m3 68 rfl) rfl
theorem q634 : (Jvm.Cond.classLink "FiveTouch$Reader" (15 : Nat) "FiveTouch$Test") ∈ lw_all := lw_g (lw_at lw_m3 69 rfl) rfl
theorem q636 : (Jvm.Cond.classLink "FiveTouch$Reader" (21 : Nat) "java/lang/String") ∈ lw_all := lw_g (lw_at lw_m3 71 rfl) rfl
theorem q638 : (Jvm.Cond.stringRef "FiveTouch$Reader" (23 : Nat) "stone") ∈ lw_tbl := lw_at lw_m3 73 rfl
theorem q639 : (Jvm.Cond.stringRef "FiveTouch$Reader" (25 : Nat) "x") ∈ lw_tbl := lw_at lw_m3 74 rfl
theorem q640 : (Jvm.Cond.stringRef "FiveTouch$Reader" (27 : Nat) "y") ∈ lw_tbl := lw_at lw_m3 75 rfl
theorem q641 : (Jvm.Cond.stringRef "FiveTouch$Reader" (29 : Nat) "wide") ∈ lw_tbl := lw_at lw_m3 76 rfl
theorem q642 : (Jvm.Cond.stringRef "FiveTouch$Reader" (31 : Nat) "tall") ∈ lw_tbl := lw_at lw_m3 77 rfl
theorem q643 : (Jvm.Cond.stringRef "FiveTouch$Reader" (33 : Nat) "weight") ∈ lw_tbl := lw_at lw_m3 78 rfl
theorem q644 : (Jvm.Cond.stringRef "FiveTouch$Reader" (35 : Nat) "farm") ∈ lw_tbl := lw_at lw_m3 79 rfl
theorem q645 : (Jvm.Cond.stringRef "FiveTouch$Reader" (37 : Nat) "frost") ∈ lw_tbl := lw_at lw_m3 80 rfl
theorem q646 : (Jvm.Cond.stringRef "FiveTouch$Reader" (43 : Nat) "needs") ∈ lw_tbl := lw_at lw_m3 81 rfl
theorem q647 : (Jvm.Cond.stringRef "FiveTouch$Reader" (45 : Nat) "bound") ∈ lw_tbl := lw_at lw_m3 82 rfl
theorem q648 : (Jvm.Cond.fieldLink "FiveTouch$Reader" (82 : Nat) "FiveTouch$Reader" "from" "I") ∈ lw_all := lw_g (lw_at lw_m3 83 rfl) rfl
theorem q649 : (Jvm.Cond.fieldLink "FiveTouch$Reader" (52 : Nat) "FiveTouch$Reader" "to" "I") ∈ lw_all := lw_g (lw_at lw_m3 84 rfl) rfl
theorem q650 : (Jvm.Cond.fieldLink "FiveTouch$Reader" (56 : Nat) "FiveTouch$Reader" "leaves" "I") ∈ lw_all := lw_g (lw_at lw_m3 85 rfl) rfl
theorem q651 : (Jvm.Cond.fieldLink "FiveTouch$Reader" (59 : Nat) "FiveTouch$Reader" "deep" "I") ∈ lw_all := lw_g (lw_at lw_m3 86 rfl) rfl
theorem q652 : (Jvm.Cond.fieldLink "FiveTouch$Reader" (62 : Nat) "FiveTouch$Reader" "piled" "I") ∈ lw_all := lw_g (lw_at lw_m3 87 rfl) rfl
theorem q653 : (Jvm.Cond.fieldLink "FiveTouch$Reader" (17 : Nat) "FiveTouch$Reader" "pile" "[LFiveTouch$Test;") ∈ lw_all := lw_g (lw_at lw_m3 88 rfl) rfl
theorem q654 : (Jvm.Cond.fieldLink "FiveTouch$Reader" (39 : Nat) "FiveTouch$Reader" "words" "[Ljava/lang/String;") ∈ lw_all := lw_g (lw_at lw_m3 89 rfl) rfl
theorem q655 : (Jvm.Cond.fieldLink "FiveTouch$Reader" (47 : Nat) "FiveTouch$Reader" "heads" "[Ljava/lang/String;") ∈ lw_all := lw_g (lw_at lw_m3 90 rfl) rfl
theorem q656 : (Jvm.Cond.fieldLink "FiveTouch$Reader" (3 : Nat) "FiveTouch$Reader" "this$0" "LFiveTouch;") ∈ lw_all := lw_g (lw_at lw_m3 91 rfl) rfl
theorem q657 : (Jvm.Cond.lays "FiveTouch$Reader" "FiveTouch$Reader" "from" "I") ∈ lw_all := lw_g (lw_at lw_m3 92 rfl) rfl
theorem q658 : (Jvm.Cond.soleField "FiveTouch$Reader" "from") ∈ lw_all := lw_g (lw_at lw_m3 93 rfl) rfl
theorem q659 : (Jvm.Cond.lays "FiveTouch$Reader" "FiveTouch$Reader" "to" "I") ∈ lw_all := lw_g (lw_at lw_m3 94 rfl) rfl
theorem q660 : (Jvm.Cond.soleField "FiveTouch$Reader" "to") ∈ lw_all := lw_g (lw_at lw_m3 95 rfl) rfl
theorem q661 : (Jvm.Cond.lays "FiveTouch$Reader" "FiveTouch$Reader" "leaves" "I") ∈ lw_all := lw_g (lw_at lw_m3 96 rfl) rfl
theorem q662 : (Jvm.Cond.soleField "FiveTouch$Reader" "leaves") ∈ lw_all := lw_g (lw_at lw_m3 97 rfl) rfl
theorem q663 : (Jvm.Cond.lays "FiveTouch$Reader" "FiveTouch$Reader" "deep" "I") ∈ lw_all := lw_g (lw_at lw_m3 98 rfl) rfl
theorem q664 : (Jvm.Cond.soleField "FiveTouch$Reader" "deep") ∈ lw_all := lw_g (lw_at lw_m3 99 rfl) rfl
theorem q665 : (Jvm.Cond.lays "FiveTouch$Reader" "FiveTouch$Reader" "piled" "I") ∈ lw_all := lw_g (lw_at lw_m3 100 rfl) rfl
theorem q666 : (Jvm.Cond.soleField "FiveTouch$Reader" "piled") ∈ lw_all := lw_g (lw_at lw_m3 101 rfl) rfl
theorem q667 : (Jvm.Cond.laysFinal "FiveTouch$Reader" "FiveTouch$Reader" "pile" "[LFiveTouch$Test;") ∈ lw_all := lw_g (lw_at lw_m3 102 rfl) rfl
theorem q668 : (Jvm.Cond.soleField "FiveTouch$Reader" "pile") ∈ lw_all := lw_g (lw_at lw_m3 103 rfl) rfl
theorem q669 : (Jvm.Cond.laysFinal "FiveTouch$Reader" "FiveTouch$Reader" "words" "[Ljava/lang/String;") ∈ lw_all := lw_g (lw_at lw_m3 104 rfl) rfl
theorem q670 : (Jvm.Cond.soleField "FiveTouch$Reader" "words") ∈ lw_all := lw_g (lw_at lw_m3 105 rfl) rfl
theorem q671 : (Jvm.Cond.laysFinal "FiveTouch$Reader" "FiveTouch$Reader" "heads" "[Ljava/lang/String;") ∈ lw_all := lw_g (lw_at lw_m3 106 rfl) rfl
theorem q672 : (Jvm.Cond.soleField "FiveTouch$Reader" "heads") ∈ lw_all := lw_g (lw_at lw_m3 107 rfl) rfl
theorem q673 : (Jvm.Cond.laysFinal "FiveTouch$Reader" "FiveTouch$Reader" "this$0" "LFiveTouch;") ∈ lw_all := lw_g (lw_at lw_m3 108 rfl) rfl
theorem q674 : (Jvm.Cond.soleField "FiveTouch$Reader" "this$0") ∈ lw_all := lw_g (lw_at lw_m3 109 rfl) rfl
theorem q675 : (Jvm.Cond.superclass "FiveTouch$Reader" "java/lang/Object") ∈ lw_all := lw_g (lw_at lw_m3 110 rfl) rfl
theorem q677 : (Jvm.Cond.instanceMethod ({ cls := "FiveTouch$Reader", name := "read", desc := "()LFiveTouch$Text;" } : Jvm.MethodName)) ∈ lw_all := lw_g (lw_at lw_m3 112 rfl) rfl
theorem q678 : (Jvm.Cond.selects "FiveTouch$Reader" ({ cls := "FiveTouch$Reader", name := "read", desc := "()LFiveTouch$Text;" } : Jvm.MethodName) ({ cls := "FiveTouch$Reader", name := "read", desc := "()LFiveTouch$Text;" } : Jvm.MethodName)) ∈ lw_all := lw_g (lw_at lw_m3 113 rfl) rfl
theorem q679 : (Jvm.Cond.code ({ cls := "FiveTouch$Reader", name := "read", desc := "()LFiveTouch$Text;" } : Jvm.MethodName) prog_14_method_2_code (4 : Nat) (Option.some (Jvm.ClassFile.FieldType.object "FiveTouch$Text"))) ∈ lw_all := lw_g (lw_at lw_m3 114 rfl) rfl
theorem q680 : (Jvm.Cond.classLink "FiveTouch$Reader" (50 : Nat) "FiveTouch$Clause") ∈ lw_all := lw_g (lw_at lw_m3 115 rfl) rfl
theorem q681 : (Jvm.Cond.methodLink "FiveTouch$Reader" (65 : Nat) ({ cls := "FiveTouch$Reader", name := "next", desc := "()V" } : Jvm.MethodName)) ∈ lw_all := lw_g (lw_at lw_m3 116 rfl) rfl
theorem q682 : (Jvm.Cond.privateMethod ({ cls := "FiveTouch$Reader", name := "next", desc := "()V" } : Jvm.MethodName)) ∈ lw_tbl := lw_at lw_m3 117 rfl
theorem q683 : (Jvm.Cond.instanceMethod ({ cls := "FiveTouch$Reader", name := "next", desc := "()V" } : Jvm.MethodName)) ∈ lw_all := lw_g (lw_at lw_m3 118 rfl) rfl
theorem q684 : (Jvm.Cond.code ({ cls := "FiveTouch$Reader", name := "next", desc := "()V" } : Jvm.MethodName) prog_14_method_3_code (3 : Nat) (Option.none : Option Jvm.ClassFile.FieldType)) ∈ lw_all := lw_g (lw_at lw_m3 119 rfl) rfl
theorem q685 : (Jvm.Cond.methodLinkNest "FiveTouch$Reader" (103 : Nat) ({ cls := "FiveTouch", name := "isLetter", desc := "(I)Z" } : Jvm.MethodName) "FiveTouch") ∈ lw_tbl := lw_at lw_m3 120 rfl
theorem q688 : (Jvm.Cond.methodLinkNest "FiveTouch$Reader" (107 : Nat) ({ cls := "FiveTouch", name := "isDigit", desc := "(I)Z" } : Jvm.MethodName) "FiveTouch") ∈ lw_tbl := lw_at lw_m3 123 rfl
theorem q691 : (Jvm.Cond.methodLink "FiveTouch$Reader" (68 : Nat) ({ cls := "FiveTouch$Reader", name := "must", desc := "(Z)V" } : Jvm.MethodName)) ∈ lw_all := lw_g (lw_at lw_m3 126 rfl) rfl
theorem q692 : (Jvm.Cond.privateMethod ({ cls := "FiveTouch$Reader", name := "must", desc := "(Z)V" } : Jvm.MethodName)) ∈ lw_tbl := lw_at lw_m3 127 rfl
theorem q693 : (Jvm.Cond.instanceMethod ({ cls := "FiveTouch$Reader", name := "must", desc := "(Z)V" } : Jvm.MethodName)) ∈ lw_all := lw_g (lw_at lw_m3 128 rfl) rfl
theorem q694 : (Jvm.Cond.code ({ cls := "FiveTouch$Reader", name := "must", desc := "(Z)V" } : Jvm.MethodName) prog_14_method_7_code (2 : Nat) (Option.none : Option Jvm.ClassFile.FieldType)) ∈ lw_all := lw_g (lw_at lw_m3 129 rfl) rfl
theorem q695 : (Jvm.Cond.classLink "FiveTouch$Reader" (121 : Nat) "FiveTouch$Wrong") ∈ lw_all := lw_g (lw_at lw_m3 130 rfl) rfl
theorem q704 : (Jvm.Cond.methodLink "FiveTouch$Reader" (123 : Nat) ({ cls := "FiveTouch$Wrong", name := "<init>", desc := "(I)V" } : Jvm.MethodName)) ∈ lw_all := lw_g (lw_at lw_m3 139 rfl) rfl
theorem q719 : (Jvm.Cond.methodLink "FiveTouch$Reader" (72 : Nat) ({ cls := "FiveTouch$Reader", name := "clause", desc := "()LFiveTouch$Clause;" } : Jvm.MethodName)) ∈ lw_all := lw_g (lw_at lw_m3 154 rfl) rfl
theorem q720 : (Jvm.Cond.privateMethod ({ cls := "FiveTouch$Reader", name := "clause", desc := "()LFiveTouch$Clause;" } : Jvm.MethodName)) ∈ lw_tbl := lw_at lw_m3 155 rfl
theorem q721 : (Jvm.Cond.instanceMethod ({ cls := "FiveTouch$Reader", name := "clause", desc := "()LFiveTouch$Clause;" } : Jvm.MethodName)) ∈ lw_all := lw_g (lw_at lw_m3 156 rfl) rfl
theorem q722 : (Jvm.Cond.code ({ cls := "FiveTouch$Reader", name := "clause", desc := "()LFiveTouch$Clause;" } : Jvm.MethodName) prog_14_method_9_code (4 : Nat) (Option.some (Jvm.ClassFile.FieldType.object "FiveTouch$Clause"))) ∈ lw_all := lw_g (lw_at lw_m3 157 rfl) rfl
theorem q723 : (Jvm.Cond.methodLink "FiveTouch$Reader" (126 : Nat) ({ cls := "FiveTouch$Reader", name := "which", desc := "([Ljava/lang/String;)I" } : Jvm.MethodName)) ∈ lw_all := lw_g (lw_at lw_m3 158 rfl) rfl
theorem q724 : (Jvm.Cond.privateMethod ({ cls := "FiveTouch$Reader", name := "which", desc := "([Ljava/lang/String;)I" } : Jvm.MethodName)) ∈ lw_tbl := lw_at lw_m3 159 rfl
theorem q725 : (Jvm.Cond.instanceMethod ({ cls := "FiveTouch$Reader", name := "which", desc := "([Ljava/lang/String;)I" } : Jvm.MethodName)) ∈ lw_all := lw_g (lw_at lw_m3 160 rfl) rfl
theorem q726 : (Jvm.Cond.code ({ cls := "FiveTouch$Reader", name := "which", desc := "([Ljava/lang/String;)I" } : Jvm.MethodName) prog_14_method_5_code (3 : Nat) (Option.some Jvm.ClassFile.FieldType.int)) ∈ lw_all := lw_g (lw_at lw_m3 161 rfl) rfl
theorem q727 : (Jvm.Cond.methodLink "FiveTouch$Reader" (118 : Nat) ({ cls := "FiveTouch$Reader", name := "isWord", desc := "(Ljava/lang/String;)Z" } : Jvm.MethodName)) ∈ lw_all := lw_g (lw_at lw_m3 162 rfl) rfl
theorem q728 : (Jvm.Cond.privateMethod ({ cls := "FiveTouch$Reader", name := "isWord", desc := "(Ljava/lang/String;)Z" } : Jvm.MethodName)) ∈ lw_tbl := lw_at lw_m3 163 rfl
theorem q729 : (Jvm.Cond.instanceMethod ({ cls := "FiveTouch$Reader", name := "isWord", desc := "(Ljava/lang/String;)Z" } : Jvm.MethodName)) ∈ lw_all := lw_g (lw_at lw_m3 164 rfl) rfl
theorem q730 : (Jvm.Cond.code ({ cls := "FiveTouch$Reader", name := "isWord", desc := "(Ljava/lang/String;)Z" } : Jvm.MethodName) prog_14_method_4_code (3 : Nat) (Option.some Jvm.ClassFile.FieldType.boolean)) ∈ lw_all := lw_g (lw_at lw_m3 165 rfl) rfl
theorem q731 : (Jvm.Cond.methodLink "FiveTouch$Reader" (110 : Nat) ({ cls := "java/lang/String", name := "length", desc := "()I" } : Jvm.MethodName)) ∈ lw_all := lw_g (lw_at lw_m3 166 rfl) rfl
theorem q741 : (Jvm.Cond.methodLink "FiveTouch$Reader" (114 : Nat) ({ cls := "java/lang/String", name := "charAt", desc := "(I)C" } : Jvm.MethodName)) ∈ lw_all := lw_g (lw_at lw_m3 176 rfl) rfl
theorem q777 : (Jvm.Cond.methodLink "FiveTouch$Reader" (130 : Nat) ({ cls := "FiveTouch$Reader", name := "sum", desc := "()LFiveTouch$Sum;" } : Jvm.MethodName)) ∈ lw_all := lw_g (lw_at lw_m3 212 rfl) rfl
theorem q778 : (Jvm.Cond.privateMethod ({ cls := "FiveTouch$Reader", name := "sum", desc := "()LFiveTouch$Sum;" } : Jvm.MethodName)) ∈ lw_tbl := lw_at lw_m3 213 rfl
theorem q779 : (Jvm.Cond.instanceMethod ({ cls := "FiveTouch$Reader", name := "sum", desc := "()LFiveTouch$Sum;" } : Jvm.MethodName)) ∈ lw_all := lw_g (lw_at lw_m3 214 rfl) rfl
theorem q780 : (Jvm.Cond.code ({ cls := "FiveTouch$Reader", name := "sum", desc := "()LFiveTouch$Sum;" } : Jvm.MethodName) prog_14_method_18_code (3 : Nat) (Option.some (Jvm.ClassFile.FieldType.object "FiveTouch$Sum"))) ∈ lw_all := lw_g (lw_at lw_m3 215 rfl) rfl
theorem q781 : (Jvm.Cond.methodLink "FiveTouch$Reader" (194 : Nat) ({ cls := "FiveTouch$Reader", name := "term", desc := "()LFiveTouch$Sum;" } : Jvm.MethodName)) ∈ lw_all := lw_g (lw_at lw_m3 216 rfl) rfl
theorem q782 : (Jvm.Cond.privateMethod ({ cls := "FiveTouch$Reader", name := "term", desc := "()LFiveTouch$Sum;" } : Jvm.MethodName)) ∈ lw_tbl := lw_at lw_m3 217 rfl
theorem q783 : (Jvm.Cond.instanceMethod ({ cls := "FiveTouch$Reader", name := "term", desc := "()LFiveTouch$Sum;" } : Jvm.MethodName)) ∈ lw_all := lw_g (lw_at lw_m3 218 rfl) rfl
theorem q784 : (Jvm.Cond.code ({ cls := "FiveTouch$Reader", name := "term", desc := "()LFiveTouch$Sum;" } : Jvm.MethodName) prog_14_method_19_code (3 : Nat) (Option.some (Jvm.ClassFile.FieldType.object "FiveTouch$Sum"))) ∈ lw_all := lw_g (lw_at lw_m3 219 rfl) rfl
theorem q785 : (Jvm.Cond.methodLink "FiveTouch$Reader" (204 : Nat) ({ cls := "FiveTouch$Reader", name := "part", desc := "()LFiveTouch$Sum;" } : Jvm.MethodName)) ∈ lw_all := lw_g (lw_at lw_m3 220 rfl) rfl
theorem q786 : (Jvm.Cond.privateMethod ({ cls := "FiveTouch$Reader", name := "part", desc := "()LFiveTouch$Sum;" } : Jvm.MethodName)) ∈ lw_tbl := lw_at lw_m3 221 rfl
theorem q787 : (Jvm.Cond.instanceMethod ({ cls := "FiveTouch$Reader", name := "part", desc := "()LFiveTouch$Sum;" } : Jvm.MethodName)) ∈ lw_all := lw_g (lw_at lw_m3 222 rfl) rfl
theorem q788 : (Jvm.Cond.code ({ cls := "FiveTouch$Reader", name := "part", desc := "()LFiveTouch$Sum;" } : Jvm.MethodName) prog_14_method_20_code (2 : Nat) (Option.some (Jvm.ClassFile.FieldType.object "FiveTouch$Sum"))) ∈ lw_all := lw_g (lw_at lw_m3 223 rfl) rfl
theorem q789 : (Jvm.Cond.stringRef "FiveTouch$Reader" (211 : Nat) "[") ∈ lw_tbl := lw_at lw_m3 224 rfl
theorem q790 : (Jvm.Cond.methodLink "FiveTouch$Reader" (170 : Nat) ({ cls := "FiveTouch$Reader", name := "open", desc := "()V" } : Jvm.MethodName)) ∈ lw_all := lw_g (lw_at lw_m3 225 rfl) rfl
theorem q791 : (Jvm.Cond.privateMethod ({ cls := "FiveTouch$Reader", name := "open", desc := "()V" } : Jvm.MethodName)) ∈ lw_tbl := lw_at lw_m3 226 rfl
theorem q792 : (Jvm.Cond.instanceMethod ({ cls := "FiveTouch$Reader", name := "open", desc := "()V" } : Jvm.MethodName)) ∈ lw_all := lw_g (lw_at lw_m3 227 rfl) rfl
theorem q793 : (Jvm.Cond.code ({ cls := "FiveTouch$Reader", name := "open", desc := "()V" } : Jvm.MethodName) prog_14_method_14_code (1 : Nat) (Option.none : Option Jvm.ClassFile.FieldType)) ∈ lw_all := lw_g (lw_at lw_m3 228 rfl) rfl
theorem q794 : (Jvm.Cond.stringRef "FiveTouch$Reader" (213 : Nat) "]") ∈ lw_tbl := lw_at lw_m3 229 rfl
theorem q795 : (Jvm.Cond.methodLink "FiveTouch$Reader" (175 : Nat) ({ cls := "FiveTouch$Reader", name := "close", desc := "(Ljava/lang/String;)V" } : Jvm.MethodName)) ∈ lw_all := lw_g (lw_at lw_m3 230 rfl) rfl
theorem q796 : (Jvm.Cond.privateMethod ({ cls := "FiveTouch$Reader", name := "close", desc := "(Ljava/lang/String;)V" } : Jvm.MethodName)) ∈ lw_tbl := lw_at lw_m3 231 rfl
theorem q797 : (Jvm.Cond.instanceMethod ({ cls := "FiveTouch$Reader", name := "close", desc := "(Ljava/lang/String;)V" } : Jvm.MethodName)) ∈ lw_all := lw_g (lw_at lw_m3 232 rfl) rfl
theorem q798 : (Jvm.Cond.code ({ cls := "FiveTouch$Reader", name := "close", desc := "(Ljava/lang/String;)V" } : Jvm.MethodName) prog_14_method_15_code (2 : Nat) (Option.none : Option Jvm.ClassFile.FieldType)) ∈ lw_all := lw_g (lw_at lw_m3 233 rfl) rfl
theorem q799 : (Jvm.Cond.methodLink "FiveTouch$Reader" (78 : Nat) ({ cls := "FiveTouch$Reader", name := "accept", desc := "(Ljava/lang/String;)Z" } : Jvm.MethodName)) ∈ lw_all := lw_g (lw_at lw_m3 234 rfl) rfl
theorem q800 : (Jvm.Cond.privateMethod ({ cls := "FiveTouch$Reader", name := "accept", desc := "(Ljava/lang/String;)Z" } : Jvm.MethodName)) ∈ lw_tbl := lw_at lw_m3 235 rfl
theorem q801 : (Jvm.Cond.instanceMethod ({ cls := "FiveTouch$Reader", name := "accept", desc := "(Ljava/lang/String;)Z" } : Jvm.MethodName)) ∈ lw_all := lw_g (lw_at lw_m3 236 rfl) rfl
theorem q802 : (Jvm.Cond.code ({ cls := "FiveTouch$Reader", name := "accept", desc := "(Ljava/lang/String;)Z" } : Jvm.MethodName) prog_14_method_6_code (3 : Nat) (Option.some Jvm.ClassFile.FieldType.boolean)) ∈ lw_all := lw_g (lw_at lw_m3 237 rfl) rfl
theorem q803 : (Jvm.Cond.methodLink "FiveTouch$Reader" (215 : Nat) ({ cls := "FiveTouch$Reader", name := "leaf", desc := "()V" } : Jvm.MethodName)) ∈ lw_all := lw_g (lw_at lw_m3 238 rfl) rfl
theorem q804 : (Jvm.Cond.privateMethod ({ cls := "FiveTouch$Reader", name := "leaf", desc := "()V" } : Jvm.MethodName)) ∈ lw_tbl := lw_at lw_m3 239 rfl
theorem q805 : (Jvm.Cond.instanceMethod ({ cls := "FiveTouch$Reader", name := "leaf", desc := "()V" } : Jvm.MethodName)) ∈ lw_all := lw_g (lw_at lw_m4 0 rfl) rfl
theorem q806 : (Jvm.Cond.code ({ cls := "FiveTouch$Reader", name := "leaf", desc := "()V" } : Jvm.MethodName) prog_14_method_16_code (1 : Nat) (Option.none : Option Jvm.ClassFile.FieldType)) ∈ lw_all := lw_g (lw_at lw_m4 1 rfl) rfl
theorem q807 : (Jvm.Cond.classLink "FiveTouch$Reader" (218 : Nat) "FiveTouch$Amount") ∈ lw_all := lw_g (lw_at lw_m4 2 rfl) rfl
theorem q809 : (Jvm.Cond.methodLink "FiveTouch$Reader" (220 : Nat) ({ cls := "FiveTouch$Reader", name := "number", desc := "(I)I" } : Jvm.MethodName)) ∈ lw_all := lw_g (lw_at lw_m4 4 rfl) rfl
theorem q810 : (Jvm.Cond.privateMethod ({ cls := "FiveTouch$Reader", name := "number", desc := "(I)I" } : Jvm.MethodName)) ∈ lw_tbl := lw_at lw_m4 5 rfl
theorem q811 : (Jvm.Cond.instanceMethod ({ cls := "FiveTouch$Reader", name := "number", desc := "(I)I" } : Jvm.MethodName)) ∈ lw_all := lw_g (lw_at lw_m4 6 rfl) rfl
theorem q812 : (Jvm.Cond.code ({ cls := "FiveTouch$Reader", name := "number", desc := "(I)I" } : Jvm.MethodName) prog_14_method_8_code (4 : Nat) (Option.some Jvm.ClassFile.FieldType.int)) ∈ lw_all := lw_g (lw_at lw_m4 7 rfl) rfl
theorem q813 : (Jvm.Cond.methodLink "FiveTouch$Reader" (224 : Nat) ({ cls := "FiveTouch$Amount", name := "<init>", desc := "(I)V" } : Jvm.MethodName)) ∈ lw_all := lw_g (lw_at lw_m4 8 rfl) rfl
theorem q824 : (Jvm.Cond.classLink "FiveTouch$Reader" (225 : Nat) "FiveTouch$Part") ∈ lw_all := lw_g (lw_at lw_m4 19 rfl) rfl
theorem q826 : (Jvm.Cond.methodLink "FiveTouch$Reader" (227 : Nat) ({ cls := "FiveTouch$Part", name := "<init>", desc := "(I)V" } : Jvm.MethodName)) ∈ lw_all := lw_g (lw_at lw_m4 21 rfl) rfl
theorem q834 : (Jvm.Cond.stringRef "FiveTouch$Reader" (207 : Nat) "*") ∈ lw_tbl := lw_at lw_m4 29 rfl
theorem q835 : (Jvm.Cond.stringRef "FiveTouch$Reader" (209 : Nat) "/") ∈ lw_tbl := lw_at lw_m4 30 rfl
theorem q836 : (Jvm.Cond.classLink "FiveTouch$Reader" (201 : Nat) "FiveTouch$Joined") ∈ lw_all := lw_g (lw_at lw_m4 31 rfl) rfl
theorem q838 : (Jvm.Cond.methodLink "FiveTouch$Reader" (203 : Nat) ({ cls := "FiveTouch$Joined", name := "<init>", desc := "(LFiveTouch$Sum;ILFiveTouch$Sum;)V" } : Jvm.MethodName)) ∈ lw_all := lw_g (lw_at lw_m4 33 rfl) rfl
theorem q852 : (Jvm.Cond.stringRef "FiveTouch$Reader" (197 : Nat) "+") ∈ lw_tbl := lw_at lw_m4 47 rfl
theorem q853 : (Jvm.Cond.stringRef "FiveTouch$Reader" (199 : Nat) "-") ∈ lw_tbl := lw_at lw_m4 48 rfl
theorem q854 : (Jvm.Cond.stringRef "FiveTouch$Reader" (134 : Nat) "if") ∈ lw_tbl := lw_at lw_m4 49 rfl
theorem q855 : (Jvm.Cond.methodLink "FiveTouch$Reader" (136 : Nat) ({ cls := "FiveTouch$Reader", name := "test", desc := "()LFiveTouch$Test;" } : Jvm.MethodName)) ∈ lw_all := lw_g (lw_at lw_m4 50 rfl) rfl
theorem q856 : (Jvm.Cond.privateMethod ({ cls := "FiveTouch$Reader", name := "test", desc := "()LFiveTouch$Test;" } : Jvm.MethodName)) ∈ lw_tbl := lw_at lw_m4 51 rfl
theorem q857 : (Jvm.Cond.instanceMethod ({ cls := "FiveTouch$Reader", name := "test", desc := "()LFiveTouch$Test;" } : Jvm.MethodName)) ∈ lw_all := lw_g (lw_at lw_m4 52 rfl) rfl
theorem q858 : (Jvm.Cond.code ({ cls := "FiveTouch$Reader", name := "test", desc := "()LFiveTouch$Test;" } : Jvm.MethodName) prog_14_method_10_code (2 : Nat) (Option.some (Jvm.ClassFile.FieldType.object "FiveTouch$Test"))) ∈ lw_all := lw_g (lw_at lw_m4 53 rfl) rfl
theorem q859 : (Jvm.Cond.methodLink "FiveTouch$Reader" (143 : Nat) ({ cls := "FiveTouch$Reader", name := "both", desc := "()LFiveTouch$Test;" } : Jvm.MethodName)) ∈ lw_all := lw_g (lw_at lw_m4 54 rfl) rfl
theorem q860 : (Jvm.Cond.privateMethod ({ cls := "FiveTouch$Reader", name := "both", desc := "()LFiveTouch$Test;" } : Jvm.MethodName)) ∈ lw_tbl := lw_at lw_m4 55 rfl
theorem q861 : (Jvm.Cond.instanceMethod ({ cls := "FiveTouch$Reader", name := "both", desc := "()LFiveTouch$Test;" } : Jvm.MethodName)) ∈ lw_all := lw_g (lw_at lw_m4 56 rfl) rfl
theorem q862 : (Jvm.Cond.code ({ cls := "FiveTouch$Reader", name := "both", desc := "()LFiveTouch$Test;" } : Jvm.MethodName) prog_14_method_11_code (2 : Nat) (Option.some (Jvm.ClassFile.FieldType.object "FiveTouch$Test"))) ∈ lw_all := lw_g (lw_at lw_m4 57 rfl) rfl
theorem q863 : (Jvm.Cond.methodLink "FiveTouch$Reader" (156 : Nat) ({ cls := "FiveTouch$Reader", name := "plain", desc := "()LFiveTouch$Test;" } : Jvm.MethodName)) ∈ lw_all := lw_g (lw_at lw_m4 58 rfl) rfl
theorem q864 : (Jvm.Cond.privateMethod ({ cls := "FiveTouch$Reader", name := "plain", desc := "()LFiveTouch$Test;" } : Jvm.MethodName)) ∈ lw_tbl := lw_at lw_m4 59 rfl
theorem q865 : (Jvm.Cond.instanceMethod ({ cls := "FiveTouch$Reader", name := "plain", desc := "()LFiveTouch$Test;" } : Jvm.MethodName)) ∈ lw_all := lw_g (lw_at lw_m4 60 rfl) rfl
theorem q866 : (Jvm.Cond.code ({ cls := "FiveTouch$Reader", name := "plain", desc := "()LFiveTouch$Test;" } : Jvm.MethodName) prog_14_method_17_code (5 : Nat) (Option.some (Jvm.ClassFile.FieldType.object "FiveTouch$Test"))) ∈ lw_all := lw_g (lw_at lw_m4 61 rfl) rfl
theorem q867 : (Jvm.Cond.stringRef "FiveTouch$Reader" (166 : Nat) "not") ∈ lw_tbl := lw_at lw_m4 62 rfl
theorem q868 : (Jvm.Cond.stringRef "FiveTouch$Reader" (168 : Nat) "(") ∈ lw_tbl := lw_at lw_m4 63 rfl
theorem q869 : (Jvm.Cond.stringRef "FiveTouch$Reader" (173 : Nat) ")") ∈ lw_tbl := lw_at lw_m4 64 rfl
theorem q870 : (Jvm.Cond.stringRef "FiveTouch$Reader" (179 : Nat) "<") ∈ lw_tbl := lw_at lw_m4 65 rfl
theorem q871 : (Jvm.Cond.stringRef "FiveTouch$Reader" (181 : Nat) ">") ∈ lw_tbl := lw_at lw_m4 66 rfl
theorem q872 : (Jvm.Cond.stringRef "FiveTouch$Reader" (183 : Nat) "=") ∈ lw_tbl := lw_at lw_m4 67 rfl
theorem q873 : (Jvm.Cond.classLink "FiveTouch$Reader" (185 : Nat) "FiveTouch$Compared") ∈ lw_all := lw_g (lw_at lw_m4 68 rfl) rfl
theorem q875 : (Jvm.Cond.methodLink "FiveTouch$Reader" (187 : Nat) ({ cls := "FiveTouch$Compared", name := "<init>", desc := "(LFiveTouch$Sum;ILFiveTouch$Sum;)V" } : Jvm.MethodName)) ∈ lw_all := lw_g (lw_at lw_m4 70 rfl) rfl
theorem q892 : (Jvm.Cond.classLink "FiveTouch$Reader" (190 : Nat) "FiveTouch$Not") ∈ lw_all := lw_g (lw_at lw_m4 87 rfl) rfl
theorem q894 : (Jvm.Cond.methodLink "FiveTouch$Reader" (192 : Nat) ({ cls := "FiveTouch$Not", name := "<init>", desc := "(LFiveTouch$Test;)V" } : Jvm.MethodName)) ∈ lw_all := lw_g (lw_at lw_m4 89 rfl) rfl
theorem q902 : (Jvm.Cond.methodLink "FiveTouch$Reader" (146 : Nat) ({ cls := "FiveTouch$Reader", name := "add", desc := "(LFiveTouch$Test;)V" } : Jvm.MethodName)) ∈ lw_all := lw_g (lw_at lw_m4 97 rfl) rfl
theorem q903 : (Jvm.Cond.privateMethod ({ cls := "FiveTouch$Reader", name := "add", desc := "(LFiveTouch$Test;)V" } : Jvm.MethodName)) ∈ lw_tbl := lw_at lw_m4 98 rfl
theorem q904 : (Jvm.Cond.instanceMethod ({ cls := "FiveTouch$Reader", name := "add", desc := "(LFiveTouch$Test;)V" } : Jvm.MethodName)) ∈ lw_all := lw_g (lw_at lw_m4 99 rfl) rfl
theorem q905 : (Jvm.Cond.code ({ cls := "FiveTouch$Reader", name := "add", desc := "(LFiveTouch$Test;)V" } : Jvm.MethodName) prog_14_method_12_code (2 : Nat) (Option.none : Option Jvm.ClassFile.FieldType)) ∈ lw_all := lw_g (lw_at lw_m4 100 rfl) rfl
theorem q906 : (Jvm.Cond.stringRef "FiveTouch$Reader" (159 : Nat) "and") ∈ lw_tbl := lw_at lw_m4 101 rfl
theorem q907 : (Jvm.Cond.methodLink "FiveTouch$Reader" (152 : Nat) ({ cls := "FiveTouch$Reader", name := "row", desc := "(ZI)LFiveTouch$Test;" } : Jvm.MethodName)) ∈ lw_all := lw_g (lw_at lw_m4 102 rfl) rfl
theorem q908 : (Jvm.Cond.privateMethod ({ cls := "FiveTouch$Reader", name := "row", desc := "(ZI)LFiveTouch$Test;" } : Jvm.MethodName)) ∈ lw_tbl := lw_at lw_m4 103 rfl
theorem q909 : (Jvm.Cond.instanceMethod ({ cls := "FiveTouch$Reader", name := "row", desc := "(ZI)LFiveTouch$Test;" } : Jvm.MethodName)) ∈ lw_all := lw_g (lw_at lw_m4 104 rfl) rfl
theorem q910 : (Jvm.Cond.code ({ cls := "FiveTouch$Reader", name := "row", desc := "(ZI)LFiveTouch$Test;" } : Jvm.MethodName) prog_14_method_13_code (5 : Nat) (Option.some (Jvm.ClassFile.FieldType.object "FiveTouch$Test"))) ∈ lw_all := lw_g (lw_at lw_m4 105 rfl) rfl
theorem q911 : (Jvm.Cond.methodLink "FiveTouch$Reader" (88 : Nat) ({ cls := "java/lang/System", name := "arraycopy", desc := "(Ljava/lang/Object;ILjava/lang/Object;II)V" } : Jvm.MethodName)) ∈ lw_all := lw_g (lw_at lw_m4 106 rfl) rfl
theorem q912 : (Jvm.Cond.classLink "FiveTouch$Reader" (161 : Nat) "FiveTouch$Row") ∈ lw_all := lw_g (lw_at lw_m4 107 rfl) rfl
theorem q914 : (Jvm.Cond.methodLink "FiveTouch$Reader" (163 : Nat) ({ cls := "FiveTouch$Row", name := "<init>", desc := "(Z[LFiveTouch$Test;)V" } : Jvm.MethodName)) ∈ lw_all := lw_g (lw_at lw_m4 109 rfl) rfl
theorem q925 : (Jvm.Cond.stringRef "FiveTouch$Reader" (150 : Nat) "or") ∈ lw_tbl := lw_at lw_m4 120 rfl
theorem q927 : (Jvm.Cond.methodLink "FiveTouch$Reader" (140 : Nat) ({ cls := "FiveTouch$Clause", name := "<init>", desc := "(ILFiveTouch$Sum;LFiveTouch$Test;)V" } : Jvm.MethodName)) ∈ lw_all := lw_g (lw_at lw_m4 122 rfl) rfl
theorem q946 : (Jvm.Cond.stringRef "FiveTouch$Reader" (76 : Nat) ";") ∈ lw_tbl := lw_at lw_m4 141 rfl
theorem q947 : (Jvm.Cond.classLink "FiveTouch$Reader" (94 : Nat) "FiveTouch$Text") ∈ lw_all := lw_g (lw_at lw_m4 142 rfl) rfl
theorem q948 : (Jvm.Cond.methodLink "FiveTouch$Reader" (96 : Nat) ({ cls := "FiveTouch$Text", name := "<init>", desc := "([LFiveTouch$Clause;)V" } : Jvm.MethodName)) ∈ lw_all := lw_g (lw_at lw_m4 143 rfl) rfl
theorem q1869 : (Jvm.Cond.castable "FiveTouch$Reader" "java/lang/Object") ∈ lw_tbl := lw_at lw_m8 104 rfl
theorem in_X7 : ∀ w ∈ wsX70, w ∈ lw_all := lw_in wsX70 [657, 659, 661, 663, 665, 667, 669, 671, 673] (by decide +kernel) (by decide +kernel)
/-! FiveTouch$Wrong -/
set_option maxRecDepth 100000
def RX8 : String := "FiveTouch$Wrong"
def TX8 : u_T := fun k => match k with
  | 0 => ("java/lang/Throwable", "cause", "Ljava/lang/Throwable;", false)
  | 1 => ("java/lang/Throwable", "stackTrace", "[Ljava/lang/StackTraceElement;", false)
  | 2 => ("java/lang/Throwable", "suppressedExceptions", "Ljava/util/List;", false)
  | 3 => ("java/lang/Throwable", "detailMessage", "Ljava/lang/String;", false)
  | 4 => ("java/lang/Throwable", "backtrace", "Ljava/lang/Object;", false)
  | 5 => ("java/lang/Throwable", "depth", "I", false)
  | _ => ("FiveTouch$Wrong", "place", "I", true)
def tyX8 : Nat → FieldType := fun k => match k with
  | 0 => .object "java/lang/Throwable"
  | 1 => .array (.object "java/lang/StackTraceElement")
  | 2 => .object "java/util/List"
  | 3 => .object "java/lang/String"
  | 4 => .object "java/lang/Object"
  | 5 => .int
  | _ => .int
abbrev wsX80 : List Cond := u_ws RX8 TX8 7
theorem nmX8 : ∀ a, a < 7 → ∀ b, b < 7 → a ≠ b → (TX8 a).2.1 ≠ (TX8 b).2.1 := by decide +kernel
theorem tyX8_ok : ∀ k, k < 7 → parseFieldDescriptor (TX8 k).2.2.1 = some (tyX8 k) := by decide +kernel
abbrev cX8_init : ByteArray := prog_22_method_1_code
def yX8_init : MethodName := ⟨RX8, "<init>", "(I)V"⟩
def dkwX8_init_0 : List UInt8 := [42, 1, 1, 3, 3, 183, 0, 1, 42, 27, 181, 0, 7, 177]
abbrev dktX8_init_0 : List UInt8 := dkwX8_init_0 ++ []
theorem dksX8_init_0 : cX8_init.data.toList.drop 0 = dktX8_init_0 := by decide +kernel
theorem dX8_init_0 : decode cX8_init 0 = .ok (.aload_n 0, 1) := dk_42 (dk_at dksX8_init_0 0 rfl rfl)
theorem dX8_init_1 : decode cX8_init 1 = .ok (.aconst_null, 1) := dk_1 (dk_at dksX8_init_0 1 rfl rfl)
theorem dX8_init_2 : decode cX8_init 2 = .ok (.aconst_null, 1) := dk_1 (dk_at dksX8_init_0 2 rfl rfl)
theorem dX8_init_3 : decode cX8_init 3 = .ok (.iconst 0, 1) := dk_3 (dk_at dksX8_init_0 3 rfl rfl)
theorem dX8_init_4 : decode cX8_init 4 = .ok (.iconst 0, 1) := dk_3 (dk_at dksX8_init_0 4 rfl rfl)
theorem dX8_init_5 : decode cX8_init 5 = .ok (.invokespecial 1, 3) := dk_183 0 1 (dk_at dksX8_init_0 5 rfl rfl)
theorem dX8_init_8 : decode cX8_init 8 = .ok (.aload_n 0, 1) := dk_42 (dk_at dksX8_init_0 8 rfl rfl)
theorem dX8_init_9 : decode cX8_init 9 = .ok (.iload_n 1, 1) := dk_27 (dk_at dksX8_init_0 9 rfl rfl)
theorem dX8_init_10 : decode cX8_init 10 = .ok (.putfield 7, 3) := dk_181 0 7 (dk_at dksX8_init_0 10 rfl rfl)
theorem dX8_init_13 : decode cX8_init 13 = .ok (.return_, 1) := dk_177 (dk_at dksX8_init_0 13 rfl rfl)
theorem q109 : (Jvm.Cond.initialized "FiveTouch$Wrong") ∈ lw_all := lw_g (lw_at lw_m1 24 rfl) rfl
theorem q480 : (Jvm.Cond.selects "FiveTouch$Wrong" ({ cls := "java/lang/Object", name := "getClass", desc := "()Ljava/lang/Class;" } : Jvm.MethodName) ({ cls := "java/lang/Object", name := "getClass", desc := "()Ljava/lang/Class;" } : Jvm.MethodName)) ∈ lw_all := lw_g (lw_at lw_m2 155 rfl) rfl
theorem q561 : (Jvm.Cond.selects "FiveTouch$Wrong" ({ cls := "java/lang/Throwable", name := "fillInStackTrace", desc := "()Ljava/lang/Throwable;" } : Jvm.MethodName) ({ cls := "java/lang/Throwable", name := "fillInStackTrace", desc := "()Ljava/lang/Throwable;" } : Jvm.MethodName)) ∈ lw_all := lw_g (lw_at lw_m2 236 rfl) rfl
theorem q696 : (Jvm.Cond.instantiable "FiveTouch$Wrong" (7 : Nat)) ∈ lw_all := lw_g (lw_at lw_m3 131 rfl) rfl
theorem q697 : (Jvm.Cond.castable "FiveTouch$Wrong" "FiveTouch$Wrong") ∈ lw_tbl := lw_at lw_m3 132 rfl
theorem q698 : (Jvm.Cond.selects "FiveTouch$Wrong" ({ cls := "java/lang/Throwable", name := "fillInStackTrace", desc := "(I)Ljava/lang/Throwable;" } : Jvm.MethodName) ({ cls := "java/lang/Throwable", name := "fillInStackTrace", desc := "(I)Ljava/lang/Throwable;" } : Jvm.MethodName)) ∈ lw_all := lw_g (lw_at lw_m3 133 rfl) rfl
theorem q699 : (Jvm.Cond.lays "FiveTouch$Wrong" "java/lang/Throwable" "cause" "Ljava/lang/Throwable;") ∈ lw_all := lw_g (lw_at lw_m3 134 rfl) rfl
theorem q700 : (Jvm.Cond.lays "FiveTouch$Wrong" "java/lang/Throwable" "stackTrace" "[Ljava/lang/StackTraceElement;") ∈ lw_all := lw_g (lw_at lw_m3 135 rfl) rfl
theorem q701 : (Jvm.Cond.lays "FiveTouch$Wrong" "java/lang/Throwable" "suppressedExceptions" "Ljava/util/List;") ∈ lw_all := lw_g (lw_at lw_m3 136 rfl) rfl
theorem q702 : (Jvm.Cond.lays "FiveTouch$Wrong" "java/lang/Throwable" "detailMessage" "Ljava/lang/String;") ∈ lw_all := lw_g (lw_at lw_m3 137 rfl) rfl
theorem q703 : (Jvm.Cond.lays "FiveTouch$Wrong" "java/lang/Throwable" "backtrace" "Ljava/lang/Object;") ∈ lw_all := lw_g (lw_at lw_m3 138 rfl) rfl
theorem q705 : (Jvm.Cond.instanceMethod ({ cls := "FiveTouch$Wrong", name := "<init>", desc := "(I)V" } : Jvm.MethodName)) ∈ lw_all := lw_g (lw_at lw_m3 140 rfl) rfl
theorem q706 : (Jvm.Cond.code ({ cls := "FiveTouch$Wrong", name := "<init>", desc := "(I)V" } : Jvm.MethodName) prog_22_method_1_code (2 : Nat) (Option.none : Option Jvm.ClassFile.FieldType)) ∈ lw_all := lw_g (lw_at lw_m3 141 rfl) rfl
theorem q707 : (Jvm.Cond.methodLink "FiveTouch$Wrong" (1 : Nat) ({ cls := "java/lang/Exception", name := "<init>", desc := "(Ljava/lang/String;Ljava/lang/Throwable;ZZ)V" } : Jvm.MethodName)) ∈ lw_all := lw_g (lw_at lw_m3 142 rfl) rfl
theorem q713 : (Jvm.Cond.fieldLink "FiveTouch$Wrong" (7 : Nat) "FiveTouch$Wrong" "place" "I") ∈ lw_all := lw_g (lw_at lw_m3 148 rfl) rfl
theorem q715 : (Jvm.Cond.laysFinal "FiveTouch$Wrong" "FiveTouch$Wrong" "place" "I") ∈ lw_all := lw_g (lw_at lw_m3 150 rfl) rfl
theorem q716 : (Jvm.Cond.soleField "FiveTouch$Wrong" "place") ∈ lw_all := lw_g (lw_at lw_m3 151 rfl) rfl
theorem q717 : (Jvm.Cond.lays "FiveTouch$Wrong" "java/lang/Throwable" "depth" "I") ∈ lw_all := lw_g (lw_at lw_m3 152 rfl) rfl
theorem q718 : (Jvm.Cond.superclass "FiveTouch$Wrong" "java/lang/Exception") ∈ lw_all := lw_g (lw_at lw_m3 153 rfl) rfl
theorem q1870 : (Jvm.Cond.castable "FiveTouch$Wrong" "java/lang/Object") ∈ lw_tbl := lw_at lw_m8 105 rfl
theorem in_X8 : ∀ w ∈ wsX80, w ∈ lw_all := lw_in wsX80 [699, 700, 701, 702, 703, 717, 715] (by decide +kernel) (by decide +kernel)
/-! FiveTouch$Sum -/
set_option maxRecDepth 100000
def RX9 : String := "FiveTouch$Sum"
abbrev cX9_init : ByteArray := prog_19_method_1_code
def yX9_init : MethodName := ⟨RX9, "<init>", "()V"⟩
theorem dX9_init_0 : decode cX9_init 0 = .ok (.aload_n 0, 1) := by decide +kernel
theorem dX9_init_1 : decode cX9_init 1 = .ok (.invokespecial 1, 3) := by decide +kernel
theorem dX9_init_4 : decode cX9_init 4 = .ok (.return_, 1) := by decide +kernel
theorem q112 : (Jvm.Cond.initialized "FiveTouch$Sum") ∈ lw_all := lw_g (lw_at lw_m1 27 rfl) rfl
theorem q817 : (Jvm.Cond.instanceMethod ({ cls := "FiveTouch$Sum", name := "<init>", desc := "()V" } : Jvm.MethodName)) ∈ lw_all := lw_g (lw_at lw_m4 12 rfl) rfl
theorem q818 : (Jvm.Cond.code ({ cls := "FiveTouch$Sum", name := "<init>", desc := "()V" } : Jvm.MethodName) prog_19_method_1_code (1 : Nat) (Option.none : Option Jvm.ClassFile.FieldType)) ∈ lw_all := lw_g (lw_at lw_m4 13 rfl) rfl
theorem q819 : (Jvm.Cond.methodLink "FiveTouch$Sum" (1 : Nat) ({ cls := "java/lang/Object", name := "<init>", desc := "()V" } : Jvm.MethodName)) ∈ lw_all := lw_g (lw_at lw_m4 14 rfl) rfl
theorem q999 : (Jvm.Cond.declares ({ cls := "FiveTouch$Sum", name := "of", desc := "(LFiveTouch$Asked;)J" } : Jvm.MethodName)) ∈ lw_tbl := lw_at lw_m4 194 rfl
theorem q1000 : (Jvm.Cond.sameMethod "FiveTouch$Sum" "FiveTouch$Sum" "of" "(LFiveTouch$Asked;)J") ∈ lw_all := lw_g (lw_at lw_m4 195 rfl) rfl
/-! FiveTouch$Amount -/
set_option maxRecDepth 100000
def RX10 : String := "FiveTouch$Amount"
def TX10 : u_T := fun k => match k with
  | _ => ("FiveTouch$Amount", "number", "I", true)
def tyX10 : Nat → FieldType := fun k => match k with
  | _ => .int
abbrev wsX100 : List Cond := u_ws RX10 TX10 1
theorem nmX10 : ∀ a, a < 1 → ∀ b, b < 1 → a ≠ b → (TX10 a).2.1 ≠ (TX10 b).2.1 := by decide +kernel
theorem tyX10_ok : ∀ k, k < 1 → parseFieldDescriptor (TX10 k).2.2.1 = some (tyX10 k) := by decide +kernel
abbrev cX10_init : ByteArray := prog_2_method_1_code
def yX10_init : MethodName := ⟨RX10, "<init>", "(I)V"⟩
def dkwX10_init_0 : List UInt8 := [42, 183, 0, 1, 42, 27, 181, 0, 7, 177]
abbrev dktX10_init_0 : List UInt8 := dkwX10_init_0 ++ []
theorem dksX10_init_0 : cX10_init.data.toList.drop 0 = dktX10_init_0 := by decide +kernel
theorem dX10_init_0 : decode cX10_init 0 = .ok (.aload_n 0, 1) := dk_42 (dk_at dksX10_init_0 0 rfl rfl)
theorem dX10_init_1 : decode cX10_init 1 = .ok (.invokespecial 1, 3) := dk_183 0 1 (dk_at dksX10_init_0 1 rfl rfl)
theorem dX10_init_4 : decode cX10_init 4 = .ok (.aload_n 0, 1) := dk_42 (dk_at dksX10_init_0 4 rfl rfl)
theorem dX10_init_5 : decode cX10_init 5 = .ok (.iload_n 1, 1) := dk_27 (dk_at dksX10_init_0 5 rfl rfl)
theorem dX10_init_6 : decode cX10_init 6 = .ok (.putfield 7, 3) := dk_181 0 7 (dk_at dksX10_init_0 6 rfl rfl)
theorem dX10_init_9 : decode cX10_init 9 = .ok (.return_, 1) := dk_177 (dk_at dksX10_init_0 9 rfl rfl)
abbrev cX10_of : ByteArray := prog_2_method_2_code
def yX10_of : MethodName := ⟨RX10, "of", "(LFiveTouch$Asked;)J"⟩
def dkwX10_of_0 : List UInt8 := [42, 180, 0, 7, 133, 173]
abbrev dktX10_of_0 : List UInt8 := dkwX10_of_0 ++ []
theorem dksX10_of_0 : cX10_of.data.toList.drop 0 = dktX10_of_0 := by decide +kernel
theorem dX10_of_0 : decode cX10_of 0 = .ok (.aload_n 0, 1) := dk_42 (dk_at dksX10_of_0 0 rfl rfl)
theorem dX10_of_1 : decode cX10_of 1 = .ok (.getfield 7, 3) := dk_180 0 7 (dk_at dksX10_of_0 1 rfl rfl)
theorem dX10_of_4 : decode cX10_of 4 = .ok (.i2l, 1) := dk_133 (dk_at dksX10_of_0 4 rfl rfl)
theorem dX10_of_5 : decode cX10_of 5 = .ok (.lreturn, 1) := dk_173 (dk_at dksX10_of_0 5 rfl rfl)
theorem q113 : (Jvm.Cond.initialized "FiveTouch$Amount") ∈ lw_all := lw_g (lw_at lw_m1 28 rfl) rfl
theorem q463 : (Jvm.Cond.selects "FiveTouch$Amount" ({ cls := "java/lang/Object", name := "getClass", desc := "()Ljava/lang/Class;" } : Jvm.MethodName) ({ cls := "java/lang/Object", name := "getClass", desc := "()Ljava/lang/Class;" } : Jvm.MethodName)) ∈ lw_all := lw_g (lw_at lw_m2 138 rfl) rfl
theorem q808 : (Jvm.Cond.instantiable "FiveTouch$Amount" (1 : Nat)) ∈ lw_all := lw_g (lw_at lw_m4 3 rfl) rfl
theorem q814 : (Jvm.Cond.instanceMethod ({ cls := "FiveTouch$Amount", name := "<init>", desc := "(I)V" } : Jvm.MethodName)) ∈ lw_all := lw_g (lw_at lw_m4 9 rfl) rfl
theorem q815 : (Jvm.Cond.code ({ cls := "FiveTouch$Amount", name := "<init>", desc := "(I)V" } : Jvm.MethodName) prog_2_method_1_code (2 : Nat) (Option.none : Option Jvm.ClassFile.FieldType)) ∈ lw_all := lw_g (lw_at lw_m4 10 rfl) rfl
theorem q816 : (Jvm.Cond.methodLinkNest "FiveTouch$Amount" (1 : Nat) ({ cls := "FiveTouch$Sum", name := "<init>", desc := "()V" } : Jvm.MethodName) "FiveTouch") ∈ lw_tbl := lw_at lw_m4 11 rfl
theorem q820 : (Jvm.Cond.fieldLink "FiveTouch$Amount" (7 : Nat) "FiveTouch$Amount" "number" "I") ∈ lw_all := lw_g (lw_at lw_m4 15 rfl) rfl
theorem q821 : (Jvm.Cond.laysFinal "FiveTouch$Amount" "FiveTouch$Amount" "number" "I") ∈ lw_all := lw_g (lw_at lw_m4 16 rfl) rfl
theorem q822 : (Jvm.Cond.soleField "FiveTouch$Amount" "number") ∈ lw_all := lw_g (lw_at lw_m4 17 rfl) rfl
theorem q823 : (Jvm.Cond.superclass "FiveTouch$Amount" "FiveTouch$Sum") ∈ lw_all := lw_g (lw_at lw_m4 18 rfl) rfl
theorem q1001 : (Jvm.Cond.selects "FiveTouch$Amount" ({ cls := "FiveTouch$Sum", name := "of", desc := "(LFiveTouch$Asked;)J" } : Jvm.MethodName) ({ cls := "FiveTouch$Amount", name := "of", desc := "(LFiveTouch$Asked;)J" } : Jvm.MethodName)) ∈ lw_all := lw_g (lw_at lw_m4 196 rfl) rfl
theorem q1002 : (Jvm.Cond.instanceMethod ({ cls := "FiveTouch$Amount", name := "of", desc := "(LFiveTouch$Asked;)J" } : Jvm.MethodName)) ∈ lw_all := lw_g (lw_at lw_m4 197 rfl) rfl
theorem q1003 : (Jvm.Cond.code ({ cls := "FiveTouch$Amount", name := "of", desc := "(LFiveTouch$Asked;)J" } : Jvm.MethodName) prog_2_method_2_code (2 : Nat) (Option.some Jvm.ClassFile.FieldType.long)) ∈ lw_all := lw_g (lw_at lw_m4 198 rfl) rfl
theorem q1871 : (Jvm.Cond.castable "FiveTouch$Amount" "java/lang/Object") ∈ lw_tbl := lw_at lw_m8 106 rfl
theorem in_X10 : ∀ w ∈ wsX100, w ∈ lw_all := lw_in wsX100 [821] (by decide +kernel) (by decide +kernel)
/-! FiveTouch$Part -/
set_option maxRecDepth 100000
def RX11 : String := "FiveTouch$Part"
def TX11 : u_T := fun k => match k with
  | _ => ("FiveTouch$Part", "what", "I", true)
def tyX11 : Nat → FieldType := fun k => match k with
  | _ => .int
abbrev wsX110 : List Cond := u_ws RX11 TX11 1
theorem nmX11 : ∀ a, a < 1 → ∀ b, b < 1 → a ≠ b → (TX11 a).2.1 ≠ (TX11 b).2.1 := by decide +kernel
theorem tyX11_ok : ∀ k, k < 1 → parseFieldDescriptor (TX11 k).2.2.1 = some (tyX11 k) := by decide +kernel
abbrev cX11_init : ByteArray := prog_13_method_1_code
def yX11_init : MethodName := ⟨RX11, "<init>", "(I)V"⟩
def dkwX11_init_0 : List UInt8 := [42, 183, 0, 1, 42, 27, 181, 0, 7, 177]
abbrev dktX11_init_0 : List UInt8 := dkwX11_init_0 ++ []
theorem dksX11_init_0 : cX11_init.data.toList.drop 0 = dktX11_init_0 := by decide +kernel
theorem dX11_init_0 : decode cX11_init 0 = .ok (.aload_n 0, 1) := dk_42 (dk_at dksX11_init_0 0 rfl rfl)
theorem dX11_init_1 : decode cX11_init 1 = .ok (.invokespecial 1, 3) := dk_183 0 1 (dk_at dksX11_init_0 1 rfl rfl)
theorem dX11_init_4 : decode cX11_init 4 = .ok (.aload_n 0, 1) := dk_42 (dk_at dksX11_init_0 4 rfl rfl)
theorem dX11_init_5 : decode cX11_init 5 = .ok (.iload_n 1, 1) := dk_27 (dk_at dksX11_init_0 5 rfl rfl)
theorem dX11_init_6 : decode cX11_init 6 = .ok (.putfield 7, 3) := dk_181 0 7 (dk_at dksX11_init_0 6 rfl rfl)
theorem dX11_init_9 : decode cX11_init 9 = .ok (.return_, 1) := dk_177 (dk_at dksX11_init_0 9 rfl rfl)
abbrev cX11_of : ByteArray := prog_13_method_2_code
def yX11_of : MethodName := ⟨RX11, "of", "(LFiveTouch$Asked;)J"⟩
def dkwX11_of_0 : List UInt8 := [43, 180, 0, 13, 42, 180, 0, 7, 47, 173]
abbrev dktX11_of_0 : List UInt8 := dkwX11_of_0 ++ []
theorem dksX11_of_0 : cX11_of.data.toList.drop 0 = dktX11_of_0 := by decide +kernel
theorem dX11_of_0 : decode cX11_of 0 = .ok (.aload_n 1, 1) := dk_43 (dk_at dksX11_of_0 0 rfl rfl)
theorem dX11_of_1 : decode cX11_of 1 = .ok (.getfield 13, 3) := dk_180 0 13 (dk_at dksX11_of_0 1 rfl rfl)
theorem dX11_of_4 : decode cX11_of 4 = .ok (.aload_n 0, 1) := dk_42 (dk_at dksX11_of_0 4 rfl rfl)
theorem dX11_of_5 : decode cX11_of 5 = .ok (.getfield 7, 3) := dk_180 0 7 (dk_at dksX11_of_0 5 rfl rfl)
theorem dX11_of_8 : decode cX11_of 8 = .ok (.laload, 1) := dk_47 (dk_at dksX11_of_0 8 rfl rfl)
theorem dX11_of_9 : decode cX11_of 9 = .ok (.lreturn, 1) := dk_173 (dk_at dksX11_of_0 9 rfl rfl)
theorem q114 : (Jvm.Cond.initialized "FiveTouch$Part") ∈ lw_all := lw_g (lw_at lw_m1 29 rfl) rfl
theorem q208 : (Jvm.Cond.fieldLinkNest "FiveTouch$Part" (13 : Nat) "FiveTouch$Asked" "numbers" "[J" "FiveTouch") ∈ lw_tbl := lw_at lw_m1 123 rfl
theorem q474 : (Jvm.Cond.selects "FiveTouch$Part" ({ cls := "java/lang/Object", name := "getClass", desc := "()Ljava/lang/Class;" } : Jvm.MethodName) ({ cls := "java/lang/Object", name := "getClass", desc := "()Ljava/lang/Class;" } : Jvm.MethodName)) ∈ lw_all := lw_g (lw_at lw_m2 149 rfl) rfl
theorem q825 : (Jvm.Cond.instantiable "FiveTouch$Part" (1 : Nat)) ∈ lw_all := lw_g (lw_at lw_m4 20 rfl) rfl
theorem q827 : (Jvm.Cond.instanceMethod ({ cls := "FiveTouch$Part", name := "<init>", desc := "(I)V" } : Jvm.MethodName)) ∈ lw_all := lw_g (lw_at lw_m4 22 rfl) rfl
theorem q828 : (Jvm.Cond.code ({ cls := "FiveTouch$Part", name := "<init>", desc := "(I)V" } : Jvm.MethodName) prog_13_method_1_code (2 : Nat) (Option.none : Option Jvm.ClassFile.FieldType)) ∈ lw_all := lw_g (lw_at lw_m4 23 rfl) rfl
theorem q829 : (Jvm.Cond.methodLinkNest "FiveTouch$Part" (1 : Nat) ({ cls := "FiveTouch$Sum", name := "<init>", desc := "()V" } : Jvm.MethodName) "FiveTouch") ∈ lw_tbl := lw_at lw_m4 24 rfl
theorem q830 : (Jvm.Cond.fieldLink "FiveTouch$Part" (7 : Nat) "FiveTouch$Part" "what" "I") ∈ lw_all := lw_g (lw_at lw_m4 25 rfl) rfl
theorem q831 : (Jvm.Cond.laysFinal "FiveTouch$Part" "FiveTouch$Part" "what" "I") ∈ lw_all := lw_g (lw_at lw_m4 26 rfl) rfl
theorem q832 : (Jvm.Cond.soleField "FiveTouch$Part" "what") ∈ lw_all := lw_g (lw_at lw_m4 27 rfl) rfl
theorem q833 : (Jvm.Cond.superclass "FiveTouch$Part" "FiveTouch$Sum") ∈ lw_all := lw_g (lw_at lw_m4 28 rfl) rfl
theorem q1008 : (Jvm.Cond.instanceMethod ({ cls := "FiveTouch$Part", name := "of", desc := "(LFiveTouch$Asked;)J" } : Jvm.MethodName)) ∈ lw_all := lw_g (lw_at lw_m4 203 rfl) rfl
theorem q1009 : (Jvm.Cond.code ({ cls := "FiveTouch$Part", name := "of", desc := "(LFiveTouch$Asked;)J" } : Jvm.MethodName) prog_13_method_2_code (2 : Nat) (Option.some Jvm.ClassFile.FieldType.long)) ∈ lw_all := lw_g (lw_at lw_m4 204 rfl) rfl
theorem q1016 : (Jvm.Cond.selects "FiveTouch$Part" ({ cls := "FiveTouch$Sum", name := "of", desc := "(LFiveTouch$Asked;)J" } : Jvm.MethodName) ({ cls := "FiveTouch$Part", name := "of", desc := "(LFiveTouch$Asked;)J" } : Jvm.MethodName)) ∈ lw_all := lw_g (lw_at lw_m4 211 rfl) rfl
theorem q1872 : (Jvm.Cond.castable "FiveTouch$Part" "java/lang/Object") ∈ lw_tbl := lw_at lw_m8 107 rfl
theorem in_X11 : ∀ w ∈ wsX110, w ∈ lw_all := lw_in wsX110 [831] (by decide +kernel) (by decide +kernel)
/-! FiveTouch$Joined -/
set_option maxRecDepth 100000
def RX12 : String := "FiveTouch$Joined"
def TX12 : u_T := fun k => match k with
  | 0 => ("FiveTouch$Joined", "one", "LFiveTouch$Sum;", true)
  | 1 => ("FiveTouch$Joined", "other", "LFiveTouch$Sum;", true)
  | _ => ("FiveTouch$Joined", "sign", "I", true)
def tyX12 : Nat → FieldType := fun k => match k with
  | 0 => .object "FiveTouch$Sum"
  | 1 => .object "FiveTouch$Sum"
  | _ => .int
abbrev wsX120 : List Cond := u_ws RX12 TX12 3
theorem nmX12 : ∀ a, a < 3 → ∀ b, b < 3 → a ≠ b → (TX12 a).2.1 ≠ (TX12 b).2.1 := by decide +kernel
theorem tyX12_ok : ∀ k, k < 3 → parseFieldDescriptor (TX12 k).2.2.1 = some (tyX12 k) := by decide +kernel
abbrev cX12_init : ByteArray := prog_9_method_1_code
def yX12_init : MethodName := ⟨RX12, "<init>", "(LFiveTouch$Sum;ILFiveTouch$Sum;)V"⟩
def dkwX12_init_0 : List UInt8 := [42, 183, 0, 1, 42, 43, 181, 0, 7, 42, 28, 181, 0, 13, 42, 45, 181, 0, 17, 177]
abbrev dktX12_init_0 : List UInt8 := dkwX12_init_0 ++ []
theorem dksX12_init_0 : cX12_init.data.toList.drop 0 = dktX12_init_0 := by decide +kernel
theorem dX12_init_0 : decode cX12_init 0 = .ok (.aload_n 0, 1) := dk_42 (dk_at dksX12_init_0 0 rfl rfl)
theorem dX12_init_1 : decode cX12_init 1 = .ok (.invokespecial 1, 3) := dk_183 0 1 (dk_at dksX12_init_0 1 rfl rfl)
theorem dX12_init_4 : decode cX12_init 4 = .ok (.aload_n 0, 1) := dk_42 (dk_at dksX12_init_0 4 rfl rfl)
theorem dX12_init_5 : decode cX12_init 5 = .ok (.aload_n 1, 1) := dk_43 (dk_at dksX12_init_0 5 rfl rfl)
theorem dX12_init_6 : decode cX12_init 6 = .ok (.putfield 7, 3) := dk_181 0 7 (dk_at dksX12_init_0 6 rfl rfl)
theorem dX12_init_9 : decode cX12_init 9 = .ok (.aload_n 0, 1) := dk_42 (dk_at dksX12_init_0 9 rfl rfl)
theorem dX12_init_10 : decode cX12_init 10 = .ok (.iload_n 2, 1) := dk_28 (dk_at dksX12_init_0 10 rfl rfl)
theorem dX12_init_11 : decode cX12_init 11 = .ok (.putfield 13, 3) := dk_181 0 13 (dk_at dksX12_init_0 11 rfl rfl)
theorem dX12_init_14 : decode cX12_init 14 = .ok (.aload_n 0, 1) := dk_42 (dk_at dksX12_init_0 14 rfl rfl)
theorem dX12_init_15 : decode cX12_init 15 = .ok (.aload_n 3, 1) := dk_45 (dk_at dksX12_init_0 15 rfl rfl)
theorem dX12_init_16 : decode cX12_init 16 = .ok (.putfield 17, 3) := dk_181 0 17 (dk_at dksX12_init_0 16 rfl rfl)
theorem dX12_init_19 : decode cX12_init 19 = .ok (.return_, 1) := dk_177 (dk_at dksX12_init_0 19 rfl rfl)
abbrev cX12_of : ByteArray := prog_9_method_2_code
def yX12_of : MethodName := ⟨RX12, "of", "(LFiveTouch$Asked;)J"⟩
def dkwX12_of_5 : List UInt8 := [182, 0, 30, 173]
abbrev dktX12_of_5 : List UInt8 := dkwX12_of_5 ++ []
def dkwX12_of_4 : List UInt8 := [167, 0, 23, 42, 180, 0, 13, 16, 45, 160, 0, 10, 32, 22, 4, 101, 167, 0, 7, 32, 22, 4, 105]
abbrev dktX12_of_4 : List UInt8 := dkwX12_of_4 ++ dktX12_of_5
def dkwX12_of_3 : List UInt8 := [167, 0, 7, 32, 22, 4, 109, 173, 43, 42, 180, 0, 13, 16, 43, 160, 0, 10, 32, 22, 4, 97]
abbrev dktX12_of_3 : List UInt8 := dkwX12_of_3 ++ dktX12_of_4
def dkwX12_of_2 : List UInt8 := [43, 22, 4, 9, 148, 154, 0, 7, 4, 167, 0, 4, 3, 181, 0, 24, 22, 4, 9, 148, 154, 0, 7, 9]
abbrev dktX12_of_2 : List UInt8 := dkwX12_of_2 ++ dktX12_of_3
def dkwX12_of_1 : List UInt8 := [43, 182, 0, 20, 55, 4, 43, 180, 0, 24, 153, 0, 5, 9, 173, 42, 180, 0, 13, 16, 47, 160, 0, 35]
abbrev dktX12_of_1 : List UInt8 := dkwX12_of_1 ++ dktX12_of_2
def dkwX12_of_0 : List UInt8 := [42, 180, 0, 7, 43, 182, 0, 20, 65, 43, 180, 0, 24, 153, 0, 7, 9, 167, 0, 11, 42, 180, 0, 17]
abbrev dktX12_of_0 : List UInt8 := dkwX12_of_0 ++ dktX12_of_1
theorem dksX12_of_0 : cX12_of.data.toList.drop 0 = dktX12_of_0 := by decide +kernel
theorem dksX12_of_1 : cX12_of.data.toList.drop 24 = dktX12_of_1 := dk_seg dksX12_of_0 24 rfl rfl
theorem dksX12_of_2 : cX12_of.data.toList.drop 48 = dktX12_of_2 := dk_seg dksX12_of_1 24 rfl rfl
theorem dksX12_of_3 : cX12_of.data.toList.drop 72 = dktX12_of_3 := dk_seg dksX12_of_2 24 rfl rfl
theorem dksX12_of_4 : cX12_of.data.toList.drop 94 = dktX12_of_4 := dk_seg dksX12_of_3 22 rfl rfl
theorem dksX12_of_5 : cX12_of.data.toList.drop 117 = dktX12_of_5 := dk_seg dksX12_of_4 23 rfl rfl
theorem dX12_of_0 : decode cX12_of 0 = .ok (.aload_n 0, 1) := dk_42 (dk_at dksX12_of_0 0 rfl rfl)
theorem dX12_of_1 : decode cX12_of 1 = .ok (.getfield 7, 3) := dk_180 0 7 (dk_at dksX12_of_0 1 rfl rfl)
theorem dX12_of_4 : decode cX12_of 4 = .ok (.aload_n 1, 1) := dk_43 (dk_at dksX12_of_0 4 rfl rfl)
theorem dX12_of_5 : decode cX12_of 5 = .ok (.invokevirtual 20, 3) := dk_182 0 20 (dk_at dksX12_of_0 5 rfl rfl)
theorem dX12_of_8 : decode cX12_of 8 = .ok (.lstore_n 2, 1) := dk_65 (dk_at dksX12_of_0 8 rfl rfl)
theorem dX12_of_9 : decode cX12_of 9 = .ok (.aload_n 1, 1) := dk_43 (dk_at dksX12_of_0 9 rfl rfl)
theorem dX12_of_10 : decode cX12_of 10 = .ok (.getfield 24, 3) := dk_180 0 24 (dk_at dksX12_of_0 10 rfl rfl)
theorem dX12_of_13 : decode cX12_of 13 = .ok (.ifCond .eq 7, 3) := dk_153 0 7 (dk_at dksX12_of_0 13 rfl rfl)
theorem dX12_of_16 : decode cX12_of 16 = .ok (.lconst 0, 1) := dk_9 (dk_at dksX12_of_0 16 rfl rfl)
theorem dX12_of_17 : decode cX12_of 17 = .ok (.goto 11, 3) := dk_167 0 11 (dk_at dksX12_of_0 17 rfl rfl)
theorem dX12_of_20 : decode cX12_of 20 = .ok (.aload_n 0, 1) := dk_42 (dk_at dksX12_of_0 20 rfl rfl)
theorem dX12_of_21 : decode cX12_of 21 = .ok (.getfield 17, 3) := dk_180 0 17 (dk_at dksX12_of_0 21 rfl rfl)
theorem dX12_of_24 : decode cX12_of 24 = .ok (.aload_n 1, 1) := dk_43 (dk_at dksX12_of_1 0 rfl rfl)
theorem dX12_of_25 : decode cX12_of 25 = .ok (.invokevirtual 20, 3) := dk_182 0 20 (dk_at dksX12_of_1 1 rfl rfl)
theorem dX12_of_28 : decode cX12_of 28 = .ok (.lstore 4, 2) := dk_55 4 (dk_at dksX12_of_1 4 rfl rfl)
theorem dX12_of_30 : decode cX12_of 30 = .ok (.aload_n 1, 1) := dk_43 (dk_at dksX12_of_1 6 rfl rfl)
theorem dX12_of_31 : decode cX12_of 31 = .ok (.getfield 24, 3) := dk_180 0 24 (dk_at dksX12_of_1 7 rfl rfl)
theorem dX12_of_34 : decode cX12_of 34 = .ok (.ifCond .eq 5, 3) := dk_153 0 5 (dk_at dksX12_of_1 10 rfl rfl)
theorem dX12_of_37 : decode cX12_of 37 = .ok (.lconst 0, 1) := dk_9 (dk_at dksX12_of_1 13 rfl rfl)
theorem dX12_of_38 : decode cX12_of 38 = .ok (.lreturn, 1) := dk_173 (dk_at dksX12_of_1 14 rfl rfl)
theorem dX12_of_39 : decode cX12_of 39 = .ok (.aload_n 0, 1) := dk_42 (dk_at dksX12_of_1 15 rfl rfl)
theorem dX12_of_40 : decode cX12_of 40 = .ok (.getfield 13, 3) := dk_180 0 13 (dk_at dksX12_of_1 16 rfl rfl)
theorem dX12_of_43 : decode cX12_of 43 = .ok (.bipush 47, 2) := dk_16 47 (dk_at dksX12_of_1 19 rfl rfl)
theorem dX12_of_45 : decode cX12_of 45 = .ok (.if_icmp .ne 35, 3) := dk_160 0 35 (dk_at dksX12_of_1 21 rfl rfl)
theorem dX12_of_48 : decode cX12_of 48 = .ok (.aload_n 1, 1) := dk_43 (dk_at dksX12_of_2 0 rfl rfl)
theorem dX12_of_49 : decode cX12_of 49 = .ok (.lload 4, 2) := dk_22 4 (dk_at dksX12_of_2 1 rfl rfl)
theorem dX12_of_51 : decode cX12_of 51 = .ok (.lconst 0, 1) := dk_9 (dk_at dksX12_of_2 3 rfl rfl)
theorem dX12_of_52 : decode cX12_of 52 = .ok (.lcmp, 1) := dk_148 (dk_at dksX12_of_2 4 rfl rfl)
theorem dX12_of_53 : decode cX12_of 53 = .ok (.ifCond .ne 7, 3) := dk_154 0 7 (dk_at dksX12_of_2 5 rfl rfl)
theorem dX12_of_56 : decode cX12_of 56 = .ok (.iconst 1, 1) := dk_4 (dk_at dksX12_of_2 8 rfl rfl)
theorem dX12_of_57 : decode cX12_of 57 = .ok (.goto 4, 3) := dk_167 0 4 (dk_at dksX12_of_2 9 rfl rfl)
theorem dX12_of_60 : decode cX12_of 60 = .ok (.iconst 0, 1) := dk_3 (dk_at dksX12_of_2 12 rfl rfl)
theorem dX12_of_61 : decode cX12_of 61 = .ok (.putfield 24, 3) := dk_181 0 24 (dk_at dksX12_of_2 13 rfl rfl)
theorem dX12_of_64 : decode cX12_of 64 = .ok (.lload 4, 2) := dk_22 4 (dk_at dksX12_of_2 16 rfl rfl)
theorem dX12_of_66 : decode cX12_of 66 = .ok (.lconst 0, 1) := dk_9 (dk_at dksX12_of_2 18 rfl rfl)
theorem dX12_of_67 : decode cX12_of 67 = .ok (.lcmp, 1) := dk_148 (dk_at dksX12_of_2 19 rfl rfl)
theorem dX12_of_68 : decode cX12_of 68 = .ok (.ifCond .ne 7, 3) := dk_154 0 7 (dk_at dksX12_of_2 20 rfl rfl)
theorem dX12_of_71 : decode cX12_of 71 = .ok (.lconst 0, 1) := dk_9 (dk_at dksX12_of_2 23 rfl rfl)
theorem dX12_of_72 : decode cX12_of 72 = .ok (.goto 7, 3) := dk_167 0 7 (dk_at dksX12_of_3 0 rfl rfl)
theorem dX12_of_75 : decode cX12_of 75 = .ok (.lload_n 2, 1) := dk_32 (dk_at dksX12_of_3 3 rfl rfl)
theorem dX12_of_76 : decode cX12_of 76 = .ok (.lload 4, 2) := dk_22 4 (dk_at dksX12_of_3 4 rfl rfl)
theorem dX12_of_78 : decode cX12_of 78 = .ok (.ldiv, 1) := dk_109 (dk_at dksX12_of_3 6 rfl rfl)
theorem dX12_of_79 : decode cX12_of 79 = .ok (.lreturn, 1) := dk_173 (dk_at dksX12_of_3 7 rfl rfl)
theorem dX12_of_80 : decode cX12_of 80 = .ok (.aload_n 1, 1) := dk_43 (dk_at dksX12_of_3 8 rfl rfl)
theorem dX12_of_81 : decode cX12_of 81 = .ok (.aload_n 0, 1) := dk_42 (dk_at dksX12_of_3 9 rfl rfl)
theorem dX12_of_82 : decode cX12_of 82 = .ok (.getfield 13, 3) := dk_180 0 13 (dk_at dksX12_of_3 10 rfl rfl)
theorem dX12_of_85 : decode cX12_of 85 = .ok (.bipush 43, 2) := dk_16 43 (dk_at dksX12_of_3 13 rfl rfl)
theorem dX12_of_87 : decode cX12_of 87 = .ok (.if_icmp .ne 10, 3) := dk_160 0 10 (dk_at dksX12_of_3 15 rfl rfl)
theorem dX12_of_90 : decode cX12_of 90 = .ok (.lload_n 2, 1) := dk_32 (dk_at dksX12_of_3 18 rfl rfl)
theorem dX12_of_91 : decode cX12_of 91 = .ok (.lload 4, 2) := dk_22 4 (dk_at dksX12_of_3 19 rfl rfl)
theorem dX12_of_93 : decode cX12_of 93 = .ok (.ladd, 1) := dk_97 (dk_at dksX12_of_3 21 rfl rfl)
theorem dX12_of_94 : decode cX12_of 94 = .ok (.goto 23, 3) := dk_167 0 23 (dk_at dksX12_of_4 0 rfl rfl)
theorem dX12_of_97 : decode cX12_of 97 = .ok (.aload_n 0, 1) := dk_42 (dk_at dksX12_of_4 3 rfl rfl)
theorem dX12_of_98 : decode cX12_of 98 = .ok (.getfield 13, 3) := dk_180 0 13 (dk_at dksX12_of_4 4 rfl rfl)
theorem dX12_of_101 : decode cX12_of 101 = .ok (.bipush 45, 2) := dk_16 45 (dk_at dksX12_of_4 7 rfl rfl)
theorem dX12_of_103 : decode cX12_of 103 = .ok (.if_icmp .ne 10, 3) := dk_160 0 10 (dk_at dksX12_of_4 9 rfl rfl)
theorem dX12_of_106 : decode cX12_of 106 = .ok (.lload_n 2, 1) := dk_32 (dk_at dksX12_of_4 12 rfl rfl)
theorem dX12_of_107 : decode cX12_of 107 = .ok (.lload 4, 2) := dk_22 4 (dk_at dksX12_of_4 13 rfl rfl)
theorem dX12_of_109 : decode cX12_of 109 = .ok (.lsub, 1) := dk_101 (dk_at dksX12_of_4 15 rfl rfl)
theorem dX12_of_110 : decode cX12_of 110 = .ok (.goto 7, 3) := dk_167 0 7 (dk_at dksX12_of_4 16 rfl rfl)
theorem dX12_of_113 : decode cX12_of 113 = .ok (.lload_n 2, 1) := dk_32 (dk_at dksX12_of_4 19 rfl rfl)
theorem dX12_of_114 : decode cX12_of 114 = .ok (.lload 4, 2) := dk_22 4 (dk_at dksX12_of_4 20 rfl rfl)
theorem dX12_of_116 : decode cX12_of 116 = .ok (.lmul, 1) := dk_105 (dk_at dksX12_of_4 22 rfl rfl)
theorem dX12_of_117 : decode cX12_of 117 = .ok (.invokevirtual 30, 3) := dk_182 0 30 (dk_at dksX12_of_5 0 rfl rfl)
theorem dX12_of_120 : decode cX12_of 120 = .ok (.lreturn, 1) := dk_173 (dk_at dksX12_of_5 3 rfl rfl)
theorem q115 : (Jvm.Cond.initialized "FiveTouch$Joined") ∈ lw_all := lw_g (lw_at lw_m1 30 rfl) rfl
theorem q212 : (Jvm.Cond.fieldLinkNest "FiveTouch$Joined" (24 : Nat) "FiveTouch$Asked" "isBroken" "Z" "FiveTouch") ∈ lw_tbl := lw_at lw_m1 127 rfl
theorem q470 : (Jvm.Cond.selects "FiveTouch$Joined" ({ cls := "java/lang/Object", name := "getClass", desc := "()Ljava/lang/Class;" } : Jvm.MethodName) ({ cls := "java/lang/Object", name := "getClass", desc := "()Ljava/lang/Class;" } : Jvm.MethodName)) ∈ lw_all := lw_g (lw_at lw_m2 145 rfl) rfl
theorem q837 : (Jvm.Cond.instantiable "FiveTouch$Joined" (3 : Nat)) ∈ lw_all := lw_g (lw_at lw_m4 32 rfl) rfl
theorem q839 : (Jvm.Cond.instanceMethod ({ cls := "FiveTouch$Joined", name := "<init>", desc := "(LFiveTouch$Sum;ILFiveTouch$Sum;)V" } : Jvm.MethodName)) ∈ lw_all := lw_g (lw_at lw_m4 34 rfl) rfl
theorem q840 : (Jvm.Cond.code ({ cls := "FiveTouch$Joined", name := "<init>", desc := "(LFiveTouch$Sum;ILFiveTouch$Sum;)V" } : Jvm.MethodName) prog_9_method_1_code (4 : Nat) (Option.none : Option Jvm.ClassFile.FieldType)) ∈ lw_all := lw_g (lw_at lw_m4 35 rfl) rfl
theorem q841 : (Jvm.Cond.methodLinkNest "FiveTouch$Joined" (1 : Nat) ({ cls := "FiveTouch$Sum", name := "<init>", desc := "()V" } : Jvm.MethodName) "FiveTouch") ∈ lw_tbl := lw_at lw_m4 36 rfl
theorem q842 : (Jvm.Cond.fieldLink "FiveTouch$Joined" (7 : Nat) "FiveTouch$Joined" "one" "LFiveTouch$Sum;") ∈ lw_all := lw_g (lw_at lw_m4 37 rfl) rfl
theorem q843 : (Jvm.Cond.fieldLink "FiveTouch$Joined" (17 : Nat) "FiveTouch$Joined" "other" "LFiveTouch$Sum;") ∈ lw_all := lw_g (lw_at lw_m4 38 rfl) rfl
theorem q844 : (Jvm.Cond.fieldLink "FiveTouch$Joined" (13 : Nat) "FiveTouch$Joined" "sign" "I") ∈ lw_all := lw_g (lw_at lw_m4 39 rfl) rfl
theorem q845 : (Jvm.Cond.laysFinal "FiveTouch$Joined" "FiveTouch$Joined" "one" "LFiveTouch$Sum;") ∈ lw_all := lw_g (lw_at lw_m4 40 rfl) rfl
theorem q846 : (Jvm.Cond.soleField "FiveTouch$Joined" "one") ∈ lw_all := lw_g (lw_at lw_m4 41 rfl) rfl
theorem q847 : (Jvm.Cond.laysFinal "FiveTouch$Joined" "FiveTouch$Joined" "other" "LFiveTouch$Sum;") ∈ lw_all := lw_g (lw_at lw_m4 42 rfl) rfl
theorem q848 : (Jvm.Cond.soleField "FiveTouch$Joined" "other") ∈ lw_all := lw_g (lw_at lw_m4 43 rfl) rfl
theorem q849 : (Jvm.Cond.laysFinal "FiveTouch$Joined" "FiveTouch$Joined" "sign" "I") ∈ lw_all := lw_g (lw_at lw_m4 44 rfl) rfl
theorem q850 : (Jvm.Cond.soleField "FiveTouch$Joined" "sign") ∈ lw_all := lw_g (lw_at lw_m4 45 rfl) rfl
theorem q851 : (Jvm.Cond.superclass "FiveTouch$Joined" "FiveTouch$Sum") ∈ lw_all := lw_g (lw_at lw_m4 46 rfl) rfl
theorem q1004 : (Jvm.Cond.selects "FiveTouch$Joined" ({ cls := "FiveTouch$Sum", name := "of", desc := "(LFiveTouch$Asked;)J" } : Jvm.MethodName) ({ cls := "FiveTouch$Joined", name := "of", desc := "(LFiveTouch$Asked;)J" } : Jvm.MethodName)) ∈ lw_all := lw_g (lw_at lw_m4 199 rfl) rfl
theorem q1005 : (Jvm.Cond.instanceMethod ({ cls := "FiveTouch$Joined", name := "of", desc := "(LFiveTouch$Asked;)J" } : Jvm.MethodName)) ∈ lw_all := lw_g (lw_at lw_m4 200 rfl) rfl
theorem q1006 : (Jvm.Cond.code ({ cls := "FiveTouch$Joined", name := "of", desc := "(LFiveTouch$Asked;)J" } : Jvm.MethodName) prog_9_method_2_code (6 : Nat) (Option.some Jvm.ClassFile.FieldType.long)) ∈ lw_all := lw_g (lw_at lw_m4 201 rfl) rfl
theorem q1007 : (Jvm.Cond.methodLink "FiveTouch$Joined" (20 : Nat) ({ cls := "FiveTouch$Sum", name := "of", desc := "(LFiveTouch$Asked;)J" } : Jvm.MethodName)) ∈ lw_all := lw_g (lw_at lw_m4 202 rfl) rfl
theorem q1010 : (Jvm.Cond.methodLink "FiveTouch$Joined" (30 : Nat) ({ cls := "FiveTouch$Asked", name := "within", desc := "(J)J" } : Jvm.MethodName)) ∈ lw_all := lw_g (lw_at lw_m4 205 rfl) rfl
theorem q1873 : (Jvm.Cond.castable "FiveTouch$Joined" "java/lang/Object") ∈ lw_tbl := lw_at lw_m8 108 rfl
theorem in_X12 : ∀ w ∈ wsX120, w ∈ lw_all := lw_in wsX120 [845, 847, 849] (by decide +kernel) (by decide +kernel)
/-! FiveTouch$Test -/
set_option maxRecDepth 100000
def RX13 : String := "FiveTouch$Test"
abbrev cX13_init : ByteArray := prog_20_method_1_code
def yX13_init : MethodName := ⟨RX13, "<init>", "()V"⟩
theorem dX13_init_0 : decode cX13_init 0 = .ok (.aload_n 0, 1) := by decide +kernel
theorem dX13_init_1 : decode cX13_init 1 = .ok (.invokespecial 1, 3) := by decide +kernel
theorem dX13_init_4 : decode cX13_init 4 = .ok (.return_, 1) := by decide +kernel
theorem q116 : (Jvm.Cond.initialized "FiveTouch$Test") ∈ lw_all := lw_g (lw_at lw_m1 31 rfl) rfl
theorem q879 : (Jvm.Cond.instanceMethod ({ cls := "FiveTouch$Test", name := "<init>", desc := "()V" } : Jvm.MethodName)) ∈ lw_all := lw_g (lw_at lw_m4 74 rfl) rfl
theorem q880 : (Jvm.Cond.code ({ cls := "FiveTouch$Test", name := "<init>", desc := "()V" } : Jvm.MethodName) prog_20_method_1_code (1 : Nat) (Option.none : Option Jvm.ClassFile.FieldType)) ∈ lw_all := lw_g (lw_at lw_m4 75 rfl) rfl
theorem q881 : (Jvm.Cond.methodLink "FiveTouch$Test" (1 : Nat) ({ cls := "java/lang/Object", name := "<init>", desc := "()V" } : Jvm.MethodName)) ∈ lw_all := lw_g (lw_at lw_m4 76 rfl) rfl
theorem q993 : (Jvm.Cond.declares ({ cls := "FiveTouch$Test", name := "of", desc := "(LFiveTouch$Asked;)Z" } : Jvm.MethodName)) ∈ lw_tbl := lw_at lw_m4 188 rfl
theorem q994 : (Jvm.Cond.sameMethod "FiveTouch$Test" "FiveTouch$Test" "of" "(LFiveTouch$Asked;)Z") ∈ lw_all := lw_g (lw_at lw_m4 189 rfl) rfl
theorem q1859 : (Jvm.Cond.castable "FiveTouch$Test" "java/lang/Object") ∈ lw_tbl := lw_at lw_m8 94 rfl
/-! FiveTouch$Compared -/
set_option maxRecDepth 100000
def RX14 : String := "FiveTouch$Compared"
def TX14 : u_T := fun k => match k with
  | 0 => ("FiveTouch$Compared", "one", "LFiveTouch$Sum;", true)
  | 1 => ("FiveTouch$Compared", "other", "LFiveTouch$Sum;", true)
  | _ => ("FiveTouch$Compared", "sign", "I", true)
def tyX14 : Nat → FieldType := fun k => match k with
  | 0 => .object "FiveTouch$Sum"
  | 1 => .object "FiveTouch$Sum"
  | _ => .int
abbrev wsX140 : List Cond := u_ws RX14 TX14 3
theorem nmX14 : ∀ a, a < 3 → ∀ b, b < 3 → a ≠ b → (TX14 a).2.1 ≠ (TX14 b).2.1 := by decide +kernel
theorem tyX14_ok : ∀ k, k < 3 → parseFieldDescriptor (TX14 k).2.2.1 = some (tyX14 k) := by decide +kernel
abbrev cX14_init : ByteArray := prog_6_method_1_code
def yX14_init : MethodName := ⟨RX14, "<init>", "(LFiveTouch$Sum;ILFiveTouch$Sum;)V"⟩
def dkwX14_init_0 : List UInt8 := [42, 183, 0, 1, 42, 43, 181, 0, 7, 42, 28, 181, 0, 13, 42, 45, 181, 0, 17, 177]
abbrev dktX14_init_0 : List UInt8 := dkwX14_init_0 ++ []
theorem dksX14_init_0 : cX14_init.data.toList.drop 0 = dktX14_init_0 := by decide +kernel
theorem dX14_init_0 : decode cX14_init 0 = .ok (.aload_n 0, 1) := dk_42 (dk_at dksX14_init_0 0 rfl rfl)
theorem dX14_init_1 : decode cX14_init 1 = .ok (.invokespecial 1, 3) := dk_183 0 1 (dk_at dksX14_init_0 1 rfl rfl)
theorem dX14_init_4 : decode cX14_init 4 = .ok (.aload_n 0, 1) := dk_42 (dk_at dksX14_init_0 4 rfl rfl)
theorem dX14_init_5 : decode cX14_init 5 = .ok (.aload_n 1, 1) := dk_43 (dk_at dksX14_init_0 5 rfl rfl)
theorem dX14_init_6 : decode cX14_init 6 = .ok (.putfield 7, 3) := dk_181 0 7 (dk_at dksX14_init_0 6 rfl rfl)
theorem dX14_init_9 : decode cX14_init 9 = .ok (.aload_n 0, 1) := dk_42 (dk_at dksX14_init_0 9 rfl rfl)
theorem dX14_init_10 : decode cX14_init 10 = .ok (.iload_n 2, 1) := dk_28 (dk_at dksX14_init_0 10 rfl rfl)
theorem dX14_init_11 : decode cX14_init 11 = .ok (.putfield 13, 3) := dk_181 0 13 (dk_at dksX14_init_0 11 rfl rfl)
theorem dX14_init_14 : decode cX14_init 14 = .ok (.aload_n 0, 1) := dk_42 (dk_at dksX14_init_0 14 rfl rfl)
theorem dX14_init_15 : decode cX14_init 15 = .ok (.aload_n 3, 1) := dk_45 (dk_at dksX14_init_0 15 rfl rfl)
theorem dX14_init_16 : decode cX14_init 16 = .ok (.putfield 17, 3) := dk_181 0 17 (dk_at dksX14_init_0 16 rfl rfl)
theorem dX14_init_19 : decode cX14_init 19 = .ok (.return_, 1) := dk_177 (dk_at dksX14_init_0 19 rfl rfl)
abbrev cX14_of : ByteArray := prog_6_method_2_code
def yX14_of : MethodName := ⟨RX14, "of", "(LFiveTouch$Asked;)Z"⟩
def dkwX14_of_3 : List UInt8 := [158, 0, 17, 167, 0, 10, 32, 22, 4, 148, 154, 0, 7, 4, 167, 0, 4, 3, 172]
abbrev dktX14_of_3 : List UInt8 := dkwX14_of_3 ++ []
def dkwX14_of_2 : List UInt8 := [22, 4, 148, 156, 0, 36, 167, 0, 29, 42, 180, 0, 13, 16, 62, 160, 0, 13, 32, 22, 4, 148]
abbrev dktX14_of_2 : List UInt8 := dkwX14_of_2 ++ dktX14_of_3
def dkwX14_of_1 : List UInt8 := [43, 182, 0, 20, 55, 4, 43, 180, 0, 26, 154, 0, 52, 42, 180, 0, 13, 16, 60, 160, 0, 13, 32]
abbrev dktX14_of_1 : List UInt8 := dkwX14_of_1 ++ dktX14_of_2
def dkwX14_of_0 : List UInt8 := [42, 180, 0, 7, 43, 182, 0, 20, 65, 43, 180, 0, 26, 153, 0, 7, 9, 167, 0, 11, 42, 180, 0, 17]
abbrev dktX14_of_0 : List UInt8 := dkwX14_of_0 ++ dktX14_of_1
theorem dksX14_of_0 : cX14_of.data.toList.drop 0 = dktX14_of_0 := by decide +kernel
theorem dksX14_of_1 : cX14_of.data.toList.drop 24 = dktX14_of_1 := dk_seg dksX14_of_0 24 rfl rfl
theorem dksX14_of_2 : cX14_of.data.toList.drop 47 = dktX14_of_2 := dk_seg dksX14_of_1 23 rfl rfl
theorem dksX14_of_3 : cX14_of.data.toList.drop 69 = dktX14_of_3 := dk_seg dksX14_of_2 22 rfl rfl
theorem dX14_of_0 : decode cX14_of 0 = .ok (.aload_n 0, 1) := dk_42 (dk_at dksX14_of_0 0 rfl rfl)
theorem dX14_of_1 : decode cX14_of 1 = .ok (.getfield 7, 3) := dk_180 0 7 (dk_at dksX14_of_0 1 rfl rfl)
theorem dX14_of_4 : decode cX14_of 4 = .ok (.aload_n 1, 1) := dk_43 (dk_at dksX14_of_0 4 rfl rfl)
theorem dX14_of_5 : decode cX14_of 5 = .ok (.invokevirtual 20, 3) := dk_182 0 20 (dk_at dksX14_of_0 5 rfl rfl)
theorem dX14_of_8 : decode cX14_of 8 = .ok (.lstore_n 2, 1) := dk_65 (dk_at dksX14_of_0 8 rfl rfl)
theorem dX14_of_9 : decode cX14_of 9 = .ok (.aload_n 1, 1) := dk_43 (dk_at dksX14_of_0 9 rfl rfl)
theorem dX14_of_10 : decode cX14_of 10 = .ok (.getfield 26, 3) := dk_180 0 26 (dk_at dksX14_of_0 10 rfl rfl)
theorem dX14_of_13 : decode cX14_of 13 = .ok (.ifCond .eq 7, 3) := dk_153 0 7 (dk_at dksX14_of_0 13 rfl rfl)
theorem dX14_of_16 : decode cX14_of 16 = .ok (.lconst 0, 1) := dk_9 (dk_at dksX14_of_0 16 rfl rfl)
theorem dX14_of_17 : decode cX14_of 17 = .ok (.goto 11, 3) := dk_167 0 11 (dk_at dksX14_of_0 17 rfl rfl)
theorem dX14_of_20 : decode cX14_of 20 = .ok (.aload_n 0, 1) := dk_42 (dk_at dksX14_of_0 20 rfl rfl)
theorem dX14_of_21 : decode cX14_of 21 = .ok (.getfield 17, 3) := dk_180 0 17 (dk_at dksX14_of_0 21 rfl rfl)
theorem dX14_of_24 : decode cX14_of 24 = .ok (.aload_n 1, 1) := dk_43 (dk_at dksX14_of_1 0 rfl rfl)
theorem dX14_of_25 : decode cX14_of 25 = .ok (.invokevirtual 20, 3) := dk_182 0 20 (dk_at dksX14_of_1 1 rfl rfl)
theorem dX14_of_28 : decode cX14_of 28 = .ok (.lstore 4, 2) := dk_55 4 (dk_at dksX14_of_1 4 rfl rfl)
theorem dX14_of_30 : decode cX14_of 30 = .ok (.aload_n 1, 1) := dk_43 (dk_at dksX14_of_1 6 rfl rfl)
theorem dX14_of_31 : decode cX14_of 31 = .ok (.getfield 26, 3) := dk_180 0 26 (dk_at dksX14_of_1 7 rfl rfl)
theorem dX14_of_34 : decode cX14_of 34 = .ok (.ifCond .ne 52, 3) := dk_154 0 52 (dk_at dksX14_of_1 10 rfl rfl)
theorem dX14_of_37 : decode cX14_of 37 = .ok (.aload_n 0, 1) := dk_42 (dk_at dksX14_of_1 13 rfl rfl)
theorem dX14_of_38 : decode cX14_of 38 = .ok (.getfield 13, 3) := dk_180 0 13 (dk_at dksX14_of_1 14 rfl rfl)
theorem dX14_of_41 : decode cX14_of 41 = .ok (.bipush 60, 2) := dk_16 60 (dk_at dksX14_of_1 17 rfl rfl)
theorem dX14_of_43 : decode cX14_of 43 = .ok (.if_icmp .ne 13, 3) := dk_160 0 13 (dk_at dksX14_of_1 19 rfl rfl)
theorem dX14_of_46 : decode cX14_of 46 = .ok (.lload_n 2, 1) := dk_32 (dk_at dksX14_of_1 22 rfl rfl)
theorem dX14_of_47 : decode cX14_of 47 = .ok (.lload 4, 2) := dk_22 4 (dk_at dksX14_of_2 0 rfl rfl)
theorem dX14_of_49 : decode cX14_of 49 = .ok (.lcmp, 1) := dk_148 (dk_at dksX14_of_2 2 rfl rfl)
theorem dX14_of_50 : decode cX14_of 50 = .ok (.ifCond .ge 36, 3) := dk_156 0 36 (dk_at dksX14_of_2 3 rfl rfl)
theorem dX14_of_53 : decode cX14_of 53 = .ok (.goto 29, 3) := dk_167 0 29 (dk_at dksX14_of_2 6 rfl rfl)
theorem dX14_of_56 : decode cX14_of 56 = .ok (.aload_n 0, 1) := dk_42 (dk_at dksX14_of_2 9 rfl rfl)
theorem dX14_of_57 : decode cX14_of 57 = .ok (.getfield 13, 3) := dk_180 0 13 (dk_at dksX14_of_2 10 rfl rfl)
theorem dX14_of_60 : decode cX14_of 60 = .ok (.bipush 62, 2) := dk_16 62 (dk_at dksX14_of_2 13 rfl rfl)
theorem dX14_of_62 : decode cX14_of 62 = .ok (.if_icmp .ne 13, 3) := dk_160 0 13 (dk_at dksX14_of_2 15 rfl rfl)
theorem dX14_of_65 : decode cX14_of 65 = .ok (.lload_n 2, 1) := dk_32 (dk_at dksX14_of_2 18 rfl rfl)
theorem dX14_of_66 : decode cX14_of 66 = .ok (.lload 4, 2) := dk_22 4 (dk_at dksX14_of_2 19 rfl rfl)
theorem dX14_of_68 : decode cX14_of 68 = .ok (.lcmp, 1) := dk_148 (dk_at dksX14_of_2 21 rfl rfl)
theorem dX14_of_69 : decode cX14_of 69 = .ok (.ifCond .le 17, 3) := dk_158 0 17 (dk_at dksX14_of_3 0 rfl rfl)
theorem dX14_of_72 : decode cX14_of 72 = .ok (.goto 10, 3) := dk_167 0 10 (dk_at dksX14_of_3 3 rfl rfl)
theorem dX14_of_75 : decode cX14_of 75 = .ok (.lload_n 2, 1) := dk_32 (dk_at dksX14_of_3 6 rfl rfl)
theorem dX14_of_76 : decode cX14_of 76 = .ok (.lload 4, 2) := dk_22 4 (dk_at dksX14_of_3 7 rfl rfl)
theorem dX14_of_78 : decode cX14_of 78 = .ok (.lcmp, 1) := dk_148 (dk_at dksX14_of_3 9 rfl rfl)
theorem dX14_of_79 : decode cX14_of 79 = .ok (.ifCond .ne 7, 3) := dk_154 0 7 (dk_at dksX14_of_3 10 rfl rfl)
theorem dX14_of_82 : decode cX14_of 82 = .ok (.iconst 1, 1) := dk_4 (dk_at dksX14_of_3 13 rfl rfl)
theorem dX14_of_83 : decode cX14_of 83 = .ok (.goto 4, 3) := dk_167 0 4 (dk_at dksX14_of_3 14 rfl rfl)
theorem dX14_of_86 : decode cX14_of 86 = .ok (.iconst 0, 1) := dk_3 (dk_at dksX14_of_3 17 rfl rfl)
theorem dX14_of_87 : decode cX14_of 87 = .ok (.ireturn, 1) := dk_172 (dk_at dksX14_of_3 18 rfl rfl)
theorem q117 : (Jvm.Cond.initialized "FiveTouch$Compared") ∈ lw_all := lw_g (lw_at lw_m1 32 rfl) rfl
theorem q213 : (Jvm.Cond.fieldLinkNest "FiveTouch$Compared" (26 : Nat) "FiveTouch$Asked" "isBroken" "Z" "FiveTouch") ∈ lw_tbl := lw_at lw_m1 128 rfl
theorem q467 : (Jvm.Cond.selects "FiveTouch$Compared" ({ cls := "java/lang/Object", name := "getClass", desc := "()Ljava/lang/Class;" } : Jvm.MethodName) ({ cls := "java/lang/Object", name := "getClass", desc := "()Ljava/lang/Class;" } : Jvm.MethodName)) ∈ lw_all := lw_g (lw_at lw_m2 142 rfl) rfl
theorem q874 : (Jvm.Cond.instantiable "FiveTouch$Compared" (3 : Nat)) ∈ lw_all := lw_g (lw_at lw_m4 69 rfl) rfl
theorem q876 : (Jvm.Cond.instanceMethod ({ cls := "FiveTouch$Compared", name := "<init>", desc := "(LFiveTouch$Sum;ILFiveTouch$Sum;)V" } : Jvm.MethodName)) ∈ lw_all := lw_g (lw_at lw_m4 71 rfl) rfl
theorem q877 : (Jvm.Cond.code ({ cls := "FiveTouch$Compared", name := "<init>", desc := "(LFiveTouch$Sum;ILFiveTouch$Sum;)V" } : Jvm.MethodName) prog_6_method_1_code (4 : Nat) (Option.none : Option Jvm.ClassFile.FieldType)) ∈ lw_all := lw_g (lw_at lw_m4 72 rfl) rfl
theorem q878 : (Jvm.Cond.methodLinkNest "FiveTouch$Compared" (1 : Nat) ({ cls := "FiveTouch$Test", name := "<init>", desc := "()V" } : Jvm.MethodName) "FiveTouch") ∈ lw_tbl := lw_at lw_m4 73 rfl
theorem q882 : (Jvm.Cond.fieldLink "FiveTouch$Compared" (7 : Nat) "FiveTouch$Compared" "one" "LFiveTouch$Sum;") ∈ lw_all := lw_g (lw_at lw_m4 77 rfl) rfl
theorem q883 : (Jvm.Cond.fieldLink "FiveTouch$Compared" (17 : Nat) "FiveTouch$Compared" "other" "LFiveTouch$Sum;") ∈ lw_all := lw_g (lw_at lw_m4 78 rfl) rfl
theorem q884 : (Jvm.Cond.fieldLink "FiveTouch$Compared" (13 : Nat) "FiveTouch$Compared" "sign" "I") ∈ lw_all := lw_g (lw_at lw_m4 79 rfl) rfl
theorem q885 : (Jvm.Cond.laysFinal "FiveTouch$Compared" "FiveTouch$Compared" "one" "LFiveTouch$Sum;") ∈ lw_all := lw_g (lw_at lw_m4 80 rfl) rfl
theorem q886 : (Jvm.Cond.soleField "FiveTouch$Compared" "one") ∈ lw_all := lw_g (lw_at lw_m4 81 rfl) rfl
theorem q887 : (Jvm.Cond.laysFinal "FiveTouch$Compared" "FiveTouch$Compared" "other" "LFiveTouch$Sum;") ∈ lw_all := lw_g (lw_at lw_m4 82 rfl) rfl
theorem q888 : (Jvm.Cond.soleField "FiveTouch$Compared" "other") ∈ lw_all := lw_g (lw_at lw_m4 83 rfl) rfl
theorem q889 : (Jvm.Cond.laysFinal "FiveTouch$Compared" "FiveTouch$Compared" "sign" "I") ∈ lw_all := lw_g (lw_at lw_m4 84 rfl) rfl
theorem q890 : (Jvm.Cond.soleField "FiveTouch$Compared" "sign") ∈ lw_all := lw_g (lw_at lw_m4 85 rfl) rfl
theorem q891 : (Jvm.Cond.superclass "FiveTouch$Compared" "FiveTouch$Test") ∈ lw_all := lw_g (lw_at lw_m4 86 rfl) rfl
theorem q995 : (Jvm.Cond.selects "FiveTouch$Compared" ({ cls := "FiveTouch$Test", name := "of", desc := "(LFiveTouch$Asked;)Z" } : Jvm.MethodName) ({ cls := "FiveTouch$Compared", name := "of", desc := "(LFiveTouch$Asked;)Z" } : Jvm.MethodName)) ∈ lw_all := lw_g (lw_at lw_m4 190 rfl) rfl
theorem q996 : (Jvm.Cond.instanceMethod ({ cls := "FiveTouch$Compared", name := "of", desc := "(LFiveTouch$Asked;)Z" } : Jvm.MethodName)) ∈ lw_all := lw_g (lw_at lw_m4 191 rfl) rfl
theorem q997 : (Jvm.Cond.code ({ cls := "FiveTouch$Compared", name := "of", desc := "(LFiveTouch$Asked;)Z" } : Jvm.MethodName) prog_6_method_2_code (6 : Nat) (Option.some Jvm.ClassFile.FieldType.boolean)) ∈ lw_all := lw_g (lw_at lw_m4 192 rfl) rfl
theorem q998 : (Jvm.Cond.methodLink "FiveTouch$Compared" (20 : Nat) ({ cls := "FiveTouch$Sum", name := "of", desc := "(LFiveTouch$Asked;)J" } : Jvm.MethodName)) ∈ lw_all := lw_g (lw_at lw_m4 193 rfl) rfl
theorem q1874 : (Jvm.Cond.castable "FiveTouch$Compared" "java/lang/Object") ∈ lw_tbl := lw_at lw_m8 109 rfl
theorem q1883 : (Jvm.Cond.castable "FiveTouch$Compared" "FiveTouch$Test") ∈ lw_tbl := lw_at lw_m8 118 rfl
theorem in_X14 : ∀ w ∈ wsX140, w ∈ lw_all := lw_in wsX140 [885, 887, 889] (by decide +kernel) (by decide +kernel)
/-! FiveTouch$Not -/
set_option maxRecDepth 100000
def RX15 : String := "FiveTouch$Not"
def TX15 : u_T := fun k => match k with
  | _ => ("FiveTouch$Not", "test", "LFiveTouch$Test;", true)
def tyX15 : Nat → FieldType := fun k => match k with
  | _ => .object "FiveTouch$Test"
abbrev wsX150 : List Cond := u_ws RX15 TX15 1
theorem nmX15 : ∀ a, a < 1 → ∀ b, b < 1 → a ≠ b → (TX15 a).2.1 ≠ (TX15 b).2.1 := by decide +kernel
theorem tyX15_ok : ∀ k, k < 1 → parseFieldDescriptor (TX15 k).2.2.1 = some (tyX15 k) := by decide +kernel
abbrev cX15_init : ByteArray := prog_11_method_1_code
def yX15_init : MethodName := ⟨RX15, "<init>", "(LFiveTouch$Test;)V"⟩
def dkwX15_init_0 : List UInt8 := [42, 183, 0, 1, 42, 43, 181, 0, 7, 177]
abbrev dktX15_init_0 : List UInt8 := dkwX15_init_0 ++ []
theorem dksX15_init_0 : cX15_init.data.toList.drop 0 = dktX15_init_0 := by decide +kernel
theorem dX15_init_0 : decode cX15_init 0 = .ok (.aload_n 0, 1) := dk_42 (dk_at dksX15_init_0 0 rfl rfl)
theorem dX15_init_1 : decode cX15_init 1 = .ok (.invokespecial 1, 3) := dk_183 0 1 (dk_at dksX15_init_0 1 rfl rfl)
theorem dX15_init_4 : decode cX15_init 4 = .ok (.aload_n 0, 1) := dk_42 (dk_at dksX15_init_0 4 rfl rfl)
theorem dX15_init_5 : decode cX15_init 5 = .ok (.aload_n 1, 1) := dk_43 (dk_at dksX15_init_0 5 rfl rfl)
theorem dX15_init_6 : decode cX15_init 6 = .ok (.putfield 7, 3) := dk_181 0 7 (dk_at dksX15_init_0 6 rfl rfl)
theorem dX15_init_9 : decode cX15_init 9 = .ok (.return_, 1) := dk_177 (dk_at dksX15_init_0 9 rfl rfl)
abbrev cX15_of : ByteArray := prog_11_method_2_code
def yX15_of : MethodName := ⟨RX15, "of", "(LFiveTouch$Asked;)Z"⟩
def dkwX15_of_0 : List UInt8 := [42, 180, 0, 7, 43, 182, 0, 13, 154, 0, 14, 43, 180, 0, 17, 154, 0, 7, 4, 167, 0, 4, 3, 172]
abbrev dktX15_of_0 : List UInt8 := dkwX15_of_0 ++ []
theorem dksX15_of_0 : cX15_of.data.toList.drop 0 = dktX15_of_0 := by decide +kernel
theorem dX15_of_0 : decode cX15_of 0 = .ok (.aload_n 0, 1) := dk_42 (dk_at dksX15_of_0 0 rfl rfl)
theorem dX15_of_1 : decode cX15_of 1 = .ok (.getfield 7, 3) := dk_180 0 7 (dk_at dksX15_of_0 1 rfl rfl)
theorem dX15_of_4 : decode cX15_of 4 = .ok (.aload_n 1, 1) := dk_43 (dk_at dksX15_of_0 4 rfl rfl)
theorem dX15_of_5 : decode cX15_of 5 = .ok (.invokevirtual 13, 3) := dk_182 0 13 (dk_at dksX15_of_0 5 rfl rfl)
theorem dX15_of_8 : decode cX15_of 8 = .ok (.ifCond .ne 14, 3) := dk_154 0 14 (dk_at dksX15_of_0 8 rfl rfl)
theorem dX15_of_11 : decode cX15_of 11 = .ok (.aload_n 1, 1) := dk_43 (dk_at dksX15_of_0 11 rfl rfl)
theorem dX15_of_12 : decode cX15_of 12 = .ok (.getfield 17, 3) := dk_180 0 17 (dk_at dksX15_of_0 12 rfl rfl)
theorem dX15_of_15 : decode cX15_of 15 = .ok (.ifCond .ne 7, 3) := dk_154 0 7 (dk_at dksX15_of_0 15 rfl rfl)
theorem dX15_of_18 : decode cX15_of 18 = .ok (.iconst 1, 1) := dk_4 (dk_at dksX15_of_0 18 rfl rfl)
theorem dX15_of_19 : decode cX15_of 19 = .ok (.goto 4, 3) := dk_167 0 4 (dk_at dksX15_of_0 19 rfl rfl)
theorem dX15_of_22 : decode cX15_of 22 = .ok (.iconst 0, 1) := dk_3 (dk_at dksX15_of_0 22 rfl rfl)
theorem dX15_of_23 : decode cX15_of 23 = .ok (.ireturn, 1) := dk_172 (dk_at dksX15_of_0 23 rfl rfl)
theorem q118 : (Jvm.Cond.initialized "FiveTouch$Not") ∈ lw_all := lw_g (lw_at lw_m1 33 rfl) rfl
theorem q214 : (Jvm.Cond.fieldLinkNest "FiveTouch$Not" (17 : Nat) "FiveTouch$Asked" "isBroken" "Z" "FiveTouch") ∈ lw_tbl := lw_at lw_m1 129 rfl
theorem q472 : (Jvm.Cond.selects "FiveTouch$Not" ({ cls := "java/lang/Object", name := "getClass", desc := "()Ljava/lang/Class;" } : Jvm.MethodName) ({ cls := "java/lang/Object", name := "getClass", desc := "()Ljava/lang/Class;" } : Jvm.MethodName)) ∈ lw_all := lw_g (lw_at lw_m2 147 rfl) rfl
theorem q893 : (Jvm.Cond.instantiable "FiveTouch$Not" (1 : Nat)) ∈ lw_all := lw_g (lw_at lw_m4 88 rfl) rfl
theorem q895 : (Jvm.Cond.instanceMethod ({ cls := "FiveTouch$Not", name := "<init>", desc := "(LFiveTouch$Test;)V" } : Jvm.MethodName)) ∈ lw_all := lw_g (lw_at lw_m4 90 rfl) rfl
theorem q896 : (Jvm.Cond.code ({ cls := "FiveTouch$Not", name := "<init>", desc := "(LFiveTouch$Test;)V" } : Jvm.MethodName) prog_11_method_1_code (2 : Nat) (Option.none : Option Jvm.ClassFile.FieldType)) ∈ lw_all := lw_g (lw_at lw_m4 91 rfl) rfl
theorem q897 : (Jvm.Cond.methodLinkNest "FiveTouch$Not" (1 : Nat) ({ cls := "FiveTouch$Test", name := "<init>", desc := "()V" } : Jvm.MethodName) "FiveTouch") ∈ lw_tbl := lw_at lw_m4 92 rfl
theorem q898 : (Jvm.Cond.fieldLink "FiveTouch$Not" (7 : Nat) "FiveTouch$Not" "test" "LFiveTouch$Test;") ∈ lw_all := lw_g (lw_at lw_m4 93 rfl) rfl
theorem q899 : (Jvm.Cond.laysFinal "FiveTouch$Not" "FiveTouch$Not" "test" "LFiveTouch$Test;") ∈ lw_all := lw_g (lw_at lw_m4 94 rfl) rfl
theorem q900 : (Jvm.Cond.soleField "FiveTouch$Not" "test") ∈ lw_all := lw_g (lw_at lw_m4 95 rfl) rfl
theorem q901 : (Jvm.Cond.superclass "FiveTouch$Not" "FiveTouch$Test") ∈ lw_all := lw_g (lw_at lw_m4 96 rfl) rfl
theorem q1017 : (Jvm.Cond.selects "FiveTouch$Not" ({ cls := "FiveTouch$Test", name := "of", desc := "(LFiveTouch$Asked;)Z" } : Jvm.MethodName) ({ cls := "FiveTouch$Not", name := "of", desc := "(LFiveTouch$Asked;)Z" } : Jvm.MethodName)) ∈ lw_all := lw_g (lw_at lw_m4 212 rfl) rfl
theorem q1018 : (Jvm.Cond.instanceMethod ({ cls := "FiveTouch$Not", name := "of", desc := "(LFiveTouch$Asked;)Z" } : Jvm.MethodName)) ∈ lw_all := lw_g (lw_at lw_m4 213 rfl) rfl
theorem q1019 : (Jvm.Cond.code ({ cls := "FiveTouch$Not", name := "of", desc := "(LFiveTouch$Asked;)Z" } : Jvm.MethodName) prog_11_method_2_code (2 : Nat) (Option.some Jvm.ClassFile.FieldType.boolean)) ∈ lw_all := lw_g (lw_at lw_m4 214 rfl) rfl
theorem q1020 : (Jvm.Cond.methodLink "FiveTouch$Not" (13 : Nat) ({ cls := "FiveTouch$Test", name := "of", desc := "(LFiveTouch$Asked;)Z" } : Jvm.MethodName)) ∈ lw_all := lw_g (lw_at lw_m4 215 rfl) rfl
theorem q1875 : (Jvm.Cond.castable "FiveTouch$Not" "java/lang/Object") ∈ lw_tbl := lw_at lw_m8 110 rfl
theorem q1884 : (Jvm.Cond.castable "FiveTouch$Not" "FiveTouch$Test") ∈ lw_tbl := lw_at lw_m8 119 rfl
theorem in_X15 : ∀ w ∈ wsX150, w ∈ lw_all := lw_in wsX150 [899] (by decide +kernel) (by decide +kernel)
/-! FiveTouch$Row -/
set_option maxRecDepth 100000
def RX16 : String := "FiveTouch$Row"
def TX16 : u_T := fun k => match k with
  | 0 => ("FiveTouch$Row", "all", "Z", true)
  | _ => ("FiveTouch$Row", "tests", "[LFiveTouch$Test;", true)
def tyX16 : Nat → FieldType := fun k => match k with
  | 0 => .boolean
  | _ => .array (.object "FiveTouch$Test")
abbrev wsX160 : List Cond := u_ws RX16 TX16 2
theorem nmX16 : ∀ a, a < 2 → ∀ b, b < 2 → a ≠ b → (TX16 a).2.1 ≠ (TX16 b).2.1 := by decide +kernel
theorem tyX16_ok : ∀ k, k < 2 → parseFieldDescriptor (TX16 k).2.2.1 = some (tyX16 k) := by decide +kernel
abbrev cX16_init : ByteArray := prog_15_method_1_code
def yX16_init : MethodName := ⟨RX16, "<init>", "(Z[LFiveTouch$Test;)V"⟩
def dkwX16_init_0 : List UInt8 := [42, 183, 0, 1, 42, 27, 181, 0, 7, 42, 44, 181, 0, 13, 177]
abbrev dktX16_init_0 : List UInt8 := dkwX16_init_0 ++ []
theorem dksX16_init_0 : cX16_init.data.toList.drop 0 = dktX16_init_0 := by decide +kernel
theorem dX16_init_0 : decode cX16_init 0 = .ok (.aload_n 0, 1) := dk_42 (dk_at dksX16_init_0 0 rfl rfl)
theorem dX16_init_1 : decode cX16_init 1 = .ok (.invokespecial 1, 3) := dk_183 0 1 (dk_at dksX16_init_0 1 rfl rfl)
theorem dX16_init_4 : decode cX16_init 4 = .ok (.aload_n 0, 1) := dk_42 (dk_at dksX16_init_0 4 rfl rfl)
theorem dX16_init_5 : decode cX16_init 5 = .ok (.iload_n 1, 1) := dk_27 (dk_at dksX16_init_0 5 rfl rfl)
theorem dX16_init_6 : decode cX16_init 6 = .ok (.putfield 7, 3) := dk_181 0 7 (dk_at dksX16_init_0 6 rfl rfl)
theorem dX16_init_9 : decode cX16_init 9 = .ok (.aload_n 0, 1) := dk_42 (dk_at dksX16_init_0 9 rfl rfl)
theorem dX16_init_10 : decode cX16_init 10 = .ok (.aload_n 2, 1) := dk_44 (dk_at dksX16_init_0 10 rfl rfl)
theorem dX16_init_11 : decode cX16_init 11 = .ok (.putfield 13, 3) := dk_181 0 13 (dk_at dksX16_init_0 11 rfl rfl)
theorem dX16_init_14 : decode cX16_init 14 = .ok (.return_, 1) := dk_177 (dk_at dksX16_init_0 14 rfl rfl)
abbrev cX16_of : ByteArray := prog_15_method_2_code
def yX16_of : MethodName := ⟨RX16, "of", "(LFiveTouch$Asked;)Z"⟩
def dkwX16_of_3 : List UInt8 := [180, 0, 7, 172]
abbrev dktX16_of_3 : List UInt8 := dkwX16_of_3 ++ []
def dkwX16_of_2 : List UInt8 := [159, 0, 16, 42, 180, 0, 7, 154, 0, 7, 4, 167, 0, 4, 3, 172, 132, 4, 1, 167, 255, 202, 42]
abbrev dktX16_of_2 : List UInt8 := dkwX16_of_2 ++ dktX16_of_3
def dkwX16_of_1 : List UInt8 := [25, 5, 43, 182, 0, 17, 54, 6, 43, 180, 0, 21, 153, 0, 5, 3, 172, 21, 6, 42, 180, 0, 7]
abbrev dktX16_of_1 : List UInt8 := dkwX16_of_1 ++ dktX16_of_2
def dkwX16_of_0 : List UInt8 := [42, 180, 0, 13, 77, 44, 190, 62, 3, 54, 4, 21, 4, 29, 162, 0, 54, 44, 21, 4, 50, 58, 5]
abbrev dktX16_of_0 : List UInt8 := dkwX16_of_0 ++ dktX16_of_1
theorem dksX16_of_0 : cX16_of.data.toList.drop 0 = dktX16_of_0 := by decide +kernel
theorem dksX16_of_1 : cX16_of.data.toList.drop 23 = dktX16_of_1 := dk_seg dksX16_of_0 23 rfl rfl
theorem dksX16_of_2 : cX16_of.data.toList.drop 46 = dktX16_of_2 := dk_seg dksX16_of_1 23 rfl rfl
theorem dksX16_of_3 : cX16_of.data.toList.drop 69 = dktX16_of_3 := dk_seg dksX16_of_2 23 rfl rfl
theorem dX16_of_0 : decode cX16_of 0 = .ok (.aload_n 0, 1) := dk_42 (dk_at dksX16_of_0 0 rfl rfl)
theorem dX16_of_1 : decode cX16_of 1 = .ok (.getfield 13, 3) := dk_180 0 13 (dk_at dksX16_of_0 1 rfl rfl)
theorem dX16_of_4 : decode cX16_of 4 = .ok (.astore_n 2, 1) := dk_77 (dk_at dksX16_of_0 4 rfl rfl)
theorem dX16_of_5 : decode cX16_of 5 = .ok (.aload_n 2, 1) := dk_44 (dk_at dksX16_of_0 5 rfl rfl)
theorem dX16_of_6 : decode cX16_of 6 = .ok (.arraylength, 1) := dk_190 (dk_at dksX16_of_0 6 rfl rfl)
theorem dX16_of_7 : decode cX16_of 7 = .ok (.istore_n 3, 1) := dk_62 (dk_at dksX16_of_0 7 rfl rfl)
theorem dX16_of_8 : decode cX16_of 8 = .ok (.iconst 0, 1) := dk_3 (dk_at dksX16_of_0 8 rfl rfl)
theorem dX16_of_9 : decode cX16_of 9 = .ok (.istore 4, 2) := dk_54 4 (dk_at dksX16_of_0 9 rfl rfl)
theorem dX16_of_11 : decode cX16_of 11 = .ok (.iload 4, 2) := dk_21 4 (dk_at dksX16_of_0 11 rfl rfl)
theorem dX16_of_13 : decode cX16_of 13 = .ok (.iload_n 3, 1) := dk_29 (dk_at dksX16_of_0 13 rfl rfl)
theorem dX16_of_14 : decode cX16_of 14 = .ok (.if_icmp .ge 54, 3) := dk_162 0 54 (dk_at dksX16_of_0 14 rfl rfl)
theorem dX16_of_17 : decode cX16_of 17 = .ok (.aload_n 2, 1) := dk_44 (dk_at dksX16_of_0 17 rfl rfl)
theorem dX16_of_18 : decode cX16_of 18 = .ok (.iload 4, 2) := dk_21 4 (dk_at dksX16_of_0 18 rfl rfl)
theorem dX16_of_20 : decode cX16_of 20 = .ok (.aaload, 1) := dk_50 (dk_at dksX16_of_0 20 rfl rfl)
theorem dX16_of_21 : decode cX16_of 21 = .ok (.astore 5, 2) := dk_58 5 (dk_at dksX16_of_0 21 rfl rfl)
theorem dX16_of_23 : decode cX16_of 23 = .ok (.aload 5, 2) := dk_25 5 (dk_at dksX16_of_1 0 rfl rfl)
theorem dX16_of_25 : decode cX16_of 25 = .ok (.aload_n 1, 1) := dk_43 (dk_at dksX16_of_1 2 rfl rfl)
theorem dX16_of_26 : decode cX16_of 26 = .ok (.invokevirtual 17, 3) := dk_182 0 17 (dk_at dksX16_of_1 3 rfl rfl)
theorem dX16_of_29 : decode cX16_of 29 = .ok (.istore 6, 2) := dk_54 6 (dk_at dksX16_of_1 6 rfl rfl)
theorem dX16_of_31 : decode cX16_of 31 = .ok (.aload_n 1, 1) := dk_43 (dk_at dksX16_of_1 8 rfl rfl)
theorem dX16_of_32 : decode cX16_of 32 = .ok (.getfield 21, 3) := dk_180 0 21 (dk_at dksX16_of_1 9 rfl rfl)
theorem dX16_of_35 : decode cX16_of 35 = .ok (.ifCond .eq 5, 3) := dk_153 0 5 (dk_at dksX16_of_1 12 rfl rfl)
theorem dX16_of_38 : decode cX16_of 38 = .ok (.iconst 0, 1) := dk_3 (dk_at dksX16_of_1 15 rfl rfl)
theorem dX16_of_39 : decode cX16_of 39 = .ok (.ireturn, 1) := dk_172 (dk_at dksX16_of_1 16 rfl rfl)
theorem dX16_of_40 : decode cX16_of 40 = .ok (.iload 6, 2) := dk_21 6 (dk_at dksX16_of_1 17 rfl rfl)
theorem dX16_of_42 : decode cX16_of 42 = .ok (.aload_n 0, 1) := dk_42 (dk_at dksX16_of_1 19 rfl rfl)
theorem dX16_of_43 : decode cX16_of 43 = .ok (.getfield 7, 3) := dk_180 0 7 (dk_at dksX16_of_1 20 rfl rfl)
theorem dX16_of_46 : decode cX16_of 46 = .ok (.if_icmp .eq 16, 3) := dk_159 0 16 (dk_at dksX16_of_2 0 rfl rfl)
theorem dX16_of_49 : decode cX16_of 49 = .ok (.aload_n 0, 1) := dk_42 (dk_at dksX16_of_2 3 rfl rfl)
theorem dX16_of_50 : decode cX16_of 50 = .ok (.getfield 7, 3) := dk_180 0 7 (dk_at dksX16_of_2 4 rfl rfl)
theorem dX16_of_53 : decode cX16_of 53 = .ok (.ifCond .ne 7, 3) := dk_154 0 7 (dk_at dksX16_of_2 7 rfl rfl)
theorem dX16_of_56 : decode cX16_of 56 = .ok (.iconst 1, 1) := dk_4 (dk_at dksX16_of_2 10 rfl rfl)
theorem dX16_of_57 : decode cX16_of 57 = .ok (.goto 4, 3) := dk_167 0 4 (dk_at dksX16_of_2 11 rfl rfl)
theorem dX16_of_60 : decode cX16_of 60 = .ok (.iconst 0, 1) := dk_3 (dk_at dksX16_of_2 14 rfl rfl)
theorem dX16_of_61 : decode cX16_of 61 = .ok (.ireturn, 1) := dk_172 (dk_at dksX16_of_2 15 rfl rfl)
theorem dX16_of_62 : decode cX16_of 62 = .ok (.iinc 4 1, 3) := dk_132 4 1 (dk_at dksX16_of_2 16 rfl rfl)
theorem dX16_of_65 : decode cX16_of 65 = .ok (.goto (-54), 3) := dk_167 255 202 (dk_at dksX16_of_2 19 rfl rfl)
theorem dX16_of_68 : decode cX16_of 68 = .ok (.aload_n 0, 1) := dk_42 (dk_at dksX16_of_2 22 rfl rfl)
theorem dX16_of_69 : decode cX16_of 69 = .ok (.getfield 7, 3) := dk_180 0 7 (dk_at dksX16_of_3 0 rfl rfl)
theorem dX16_of_72 : decode cX16_of 72 = .ok (.ireturn, 1) := dk_172 (dk_at dksX16_of_3 3 rfl rfl)
theorem q119 : (Jvm.Cond.initialized "FiveTouch$Row") ∈ lw_all := lw_g (lw_at lw_m1 34 rfl) rfl
theorem q215 : (Jvm.Cond.fieldLinkNest "FiveTouch$Row" (21 : Nat) "FiveTouch$Asked" "isBroken" "Z" "FiveTouch") ∈ lw_tbl := lw_at lw_m1 130 rfl
theorem q476 : (Jvm.Cond.selects "FiveTouch$Row" ({ cls := "java/lang/Object", name := "getClass", desc := "()Ljava/lang/Class;" } : Jvm.MethodName) ({ cls := "java/lang/Object", name := "getClass", desc := "()Ljava/lang/Class;" } : Jvm.MethodName)) ∈ lw_all := lw_g (lw_at lw_m2 151 rfl) rfl
theorem q913 : (Jvm.Cond.instantiable "FiveTouch$Row" (2 : Nat)) ∈ lw_all := lw_g (lw_at lw_m4 108 rfl) rfl
theorem q915 : (Jvm.Cond.instanceMethod ({ cls := "FiveTouch$Row", name := "<init>", desc := "(Z[LFiveTouch$Test;)V" } : Jvm.MethodName)) ∈ lw_all := lw_g (lw_at lw_m4 110 rfl) rfl
theorem q916 : (Jvm.Cond.code ({ cls := "FiveTouch$Row", name := "<init>", desc := "(Z[LFiveTouch$Test;)V" } : Jvm.MethodName) prog_15_method_1_code (3 : Nat) (Option.none : Option Jvm.ClassFile.FieldType)) ∈ lw_all := lw_g (lw_at lw_m4 111 rfl) rfl
theorem q917 : (Jvm.Cond.methodLinkNest "FiveTouch$Row" (1 : Nat) ({ cls := "FiveTouch$Test", name := "<init>", desc := "()V" } : Jvm.MethodName) "FiveTouch") ∈ lw_tbl := lw_at lw_m4 112 rfl
theorem q918 : (Jvm.Cond.fieldLink "FiveTouch$Row" (7 : Nat) "FiveTouch$Row" "all" "Z") ∈ lw_all := lw_g (lw_at lw_m4 113 rfl) rfl
theorem q919 : (Jvm.Cond.fieldLink "FiveTouch$Row" (13 : Nat) "FiveTouch$Row" "tests" "[LFiveTouch$Test;") ∈ lw_all := lw_g (lw_at lw_m4 114 rfl) rfl
theorem q920 : (Jvm.Cond.laysFinal "FiveTouch$Row" "FiveTouch$Row" "all" "Z") ∈ lw_all := lw_g (lw_at lw_m4 115 rfl) rfl
theorem q921 : (Jvm.Cond.soleField "FiveTouch$Row" "all") ∈ lw_all := lw_g (lw_at lw_m4 116 rfl) rfl
theorem q922 : (Jvm.Cond.laysFinal "FiveTouch$Row" "FiveTouch$Row" "tests" "[LFiveTouch$Test;") ∈ lw_all := lw_g (lw_at lw_m4 117 rfl) rfl
theorem q923 : (Jvm.Cond.soleField "FiveTouch$Row" "tests") ∈ lw_all := lw_g (lw_at lw_m4 118 rfl) rfl
theorem q924 : (Jvm.Cond.superclass "FiveTouch$Row" "FiveTouch$Test") ∈ lw_all := lw_g (lw_at lw_m4 119 rfl) rfl
theorem q1021 : (Jvm.Cond.instanceMethod ({ cls := "FiveTouch$Row", name := "of", desc := "(LFiveTouch$Asked;)Z" } : Jvm.MethodName)) ∈ lw_all := lw_g (lw_at lw_m4 216 rfl) rfl
theorem q1022 : (Jvm.Cond.code ({ cls := "FiveTouch$Row", name := "of", desc := "(LFiveTouch$Asked;)Z" } : Jvm.MethodName) prog_15_method_2_code (7 : Nat) (Option.some Jvm.ClassFile.FieldType.boolean)) ∈ lw_all := lw_g (lw_at lw_m4 217 rfl) rfl
theorem q1023 : (Jvm.Cond.methodLink "FiveTouch$Row" (17 : Nat) ({ cls := "FiveTouch$Test", name := "of", desc := "(LFiveTouch$Asked;)Z" } : Jvm.MethodName)) ∈ lw_all := lw_g (lw_at lw_m4 218 rfl) rfl
theorem q1024 : (Jvm.Cond.selects "FiveTouch$Row" ({ cls := "FiveTouch$Test", name := "of", desc := "(LFiveTouch$Asked;)Z" } : Jvm.MethodName) ({ cls := "FiveTouch$Row", name := "of", desc := "(LFiveTouch$Asked;)Z" } : Jvm.MethodName)) ∈ lw_all := lw_g (lw_at lw_m4 219 rfl) rfl
theorem q1876 : (Jvm.Cond.castable "FiveTouch$Row" "java/lang/Object") ∈ lw_tbl := lw_at lw_m8 111 rfl
theorem q1885 : (Jvm.Cond.castable "FiveTouch$Row" "FiveTouch$Test") ∈ lw_tbl := lw_at lw_m8 120 rfl
theorem in_X16 : ∀ w ∈ wsX160, w ∈ lw_all := lw_in wsX160 [920, 922] (by decide +kernel) (by decide +kernel)
/-! FiveTouch$Clause -/
set_option maxRecDepth 100000
def RX17 : String := "FiveTouch$Clause"
def TX17 : u_T := fun k => match k with
  | 0 => ("FiveTouch$Clause", "head", "I", true)
  | 1 => ("FiveTouch$Clause", "sum", "LFiveTouch$Sum;", true)
  | 2 => ("FiveTouch$Clause", "test", "LFiveTouch$Test;", true)
  | _ => ("FiveTouch$Clause", "told", "J", false)
def tyX17 : Nat → FieldType := fun k => match k with
  | 0 => .int
  | 1 => .object "FiveTouch$Sum"
  | 2 => .object "FiveTouch$Test"
  | _ => .long
abbrev wsX170 : List Cond := u_ws RX17 TX17 4
theorem nmX17 : ∀ a, a < 4 → ∀ b, b < 4 → a ≠ b → (TX17 a).2.1 ≠ (TX17 b).2.1 := by decide +kernel
theorem tyX17_ok : ∀ k, k < 4 → parseFieldDescriptor (TX17 k).2.2.1 = some (tyX17 k) := by decide +kernel
abbrev cX17_init : ByteArray := prog_5_method_1_code
def yX17_init : MethodName := ⟨RX17, "<init>", "(ILFiveTouch$Sum;LFiveTouch$Test;)V"⟩
def dkwX17_init_0 : List UInt8 := [42, 183, 0, 1, 42, 27, 181, 0, 7, 42, 44, 181, 0, 13, 42, 45, 181, 0, 17, 177]
abbrev dktX17_init_0 : List UInt8 := dkwX17_init_0 ++ []
theorem dksX17_init_0 : cX17_init.data.toList.drop 0 = dktX17_init_0 := by decide +kernel
theorem dX17_init_0 : decode cX17_init 0 = .ok (.aload_n 0, 1) := dk_42 (dk_at dksX17_init_0 0 rfl rfl)
theorem dX17_init_1 : decode cX17_init 1 = .ok (.invokespecial 1, 3) := dk_183 0 1 (dk_at dksX17_init_0 1 rfl rfl)
theorem dX17_init_4 : decode cX17_init 4 = .ok (.aload_n 0, 1) := dk_42 (dk_at dksX17_init_0 4 rfl rfl)
theorem dX17_init_5 : decode cX17_init 5 = .ok (.iload_n 1, 1) := dk_27 (dk_at dksX17_init_0 5 rfl rfl)
theorem dX17_init_6 : decode cX17_init 6 = .ok (.putfield 7, 3) := dk_181 0 7 (dk_at dksX17_init_0 6 rfl rfl)
theorem dX17_init_9 : decode cX17_init 9 = .ok (.aload_n 0, 1) := dk_42 (dk_at dksX17_init_0 9 rfl rfl)
theorem dX17_init_10 : decode cX17_init 10 = .ok (.aload_n 2, 1) := dk_44 (dk_at dksX17_init_0 10 rfl rfl)
theorem dX17_init_11 : decode cX17_init 11 = .ok (.putfield 13, 3) := dk_181 0 13 (dk_at dksX17_init_0 11 rfl rfl)
theorem dX17_init_14 : decode cX17_init 14 = .ok (.aload_n 0, 1) := dk_42 (dk_at dksX17_init_0 14 rfl rfl)
theorem dX17_init_15 : decode cX17_init 15 = .ok (.aload_n 3, 1) := dk_45 (dk_at dksX17_init_0 15 rfl rfl)
theorem dX17_init_16 : decode cX17_init 16 = .ok (.putfield 17, 3) := dk_181 0 17 (dk_at dksX17_init_0 16 rfl rfl)
theorem dX17_init_19 : decode cX17_init 19 = .ok (.return_, 1) := dk_177 (dk_at dksX17_init_0 19 rfl rfl)
abbrev cX17_holds : ByteArray := prog_5_method_2_code
def yX17_holds : MethodName := ⟨RX17, "holds", "(LFiveTouch$Asked;)Z"⟩
def dkwX17_holds_2 : List UInt8 := [43, 182, 0, 33, 181, 0, 38, 43, 180, 0, 21, 154, 0, 7, 4, 167, 0, 4, 3, 172]
abbrev dktX17_holds_2 : List UInt8 := dkwX17_holds_2 ++ []
def dkwX17_holds_1 : List UInt8 := [180, 0, 21, 153, 0, 5, 3, 172, 42, 42, 180, 0, 13, 199, 0, 7, 9, 167, 0, 11, 42, 180, 0, 13]
abbrev dktX17_holds_1 : List UInt8 := dkwX17_holds_1 ++ dktX17_holds_2
def dkwX17_holds_0 : List UInt8 := [43, 3, 181, 0, 21, 42, 180, 0, 17, 198, 0, 14, 42, 180, 0, 17, 43, 182, 0, 27, 153, 0, 10, 43]
abbrev dktX17_holds_0 : List UInt8 := dkwX17_holds_0 ++ dktX17_holds_1
theorem dksX17_holds_0 : cX17_holds.data.toList.drop 0 = dktX17_holds_0 := by decide +kernel
theorem dksX17_holds_1 : cX17_holds.data.toList.drop 24 = dktX17_holds_1 := dk_seg dksX17_holds_0 24 rfl rfl
theorem dksX17_holds_2 : cX17_holds.data.toList.drop 48 = dktX17_holds_2 := dk_seg dksX17_holds_1 24 rfl rfl
theorem dX17_holds_0 : decode cX17_holds 0 = .ok (.aload_n 1, 1) := dk_43 (dk_at dksX17_holds_0 0 rfl rfl)
theorem dX17_holds_1 : decode cX17_holds 1 = .ok (.iconst 0, 1) := dk_3 (dk_at dksX17_holds_0 1 rfl rfl)
theorem dX17_holds_2 : decode cX17_holds 2 = .ok (.putfield 21, 3) := dk_181 0 21 (dk_at dksX17_holds_0 2 rfl rfl)
theorem dX17_holds_5 : decode cX17_holds 5 = .ok (.aload_n 0, 1) := dk_42 (dk_at dksX17_holds_0 5 rfl rfl)
theorem dX17_holds_6 : decode cX17_holds 6 = .ok (.getfield 17, 3) := dk_180 0 17 (dk_at dksX17_holds_0 6 rfl rfl)
theorem dX17_holds_9 : decode cX17_holds 9 = .ok (.ifnull 14, 3) := dk_198 0 14 (dk_at dksX17_holds_0 9 rfl rfl)
theorem dX17_holds_12 : decode cX17_holds 12 = .ok (.aload_n 0, 1) := dk_42 (dk_at dksX17_holds_0 12 rfl rfl)
theorem dX17_holds_13 : decode cX17_holds 13 = .ok (.getfield 17, 3) := dk_180 0 17 (dk_at dksX17_holds_0 13 rfl rfl)
theorem dX17_holds_16 : decode cX17_holds 16 = .ok (.aload_n 1, 1) := dk_43 (dk_at dksX17_holds_0 16 rfl rfl)
theorem dX17_holds_17 : decode cX17_holds 17 = .ok (.invokevirtual 27, 3) := dk_182 0 27 (dk_at dksX17_holds_0 17 rfl rfl)
theorem dX17_holds_20 : decode cX17_holds 20 = .ok (.ifCond .eq 10, 3) := dk_153 0 10 (dk_at dksX17_holds_0 20 rfl rfl)
theorem dX17_holds_23 : decode cX17_holds 23 = .ok (.aload_n 1, 1) := dk_43 (dk_at dksX17_holds_0 23 rfl rfl)
theorem dX17_holds_24 : decode cX17_holds 24 = .ok (.getfield 21, 3) := dk_180 0 21 (dk_at dksX17_holds_1 0 rfl rfl)
theorem dX17_holds_27 : decode cX17_holds 27 = .ok (.ifCond .eq 5, 3) := dk_153 0 5 (dk_at dksX17_holds_1 3 rfl rfl)
theorem dX17_holds_30 : decode cX17_holds 30 = .ok (.iconst 0, 1) := dk_3 (dk_at dksX17_holds_1 6 rfl rfl)
theorem dX17_holds_31 : decode cX17_holds 31 = .ok (.ireturn, 1) := dk_172 (dk_at dksX17_holds_1 7 rfl rfl)
theorem dX17_holds_32 : decode cX17_holds 32 = .ok (.aload_n 0, 1) := dk_42 (dk_at dksX17_holds_1 8 rfl rfl)
theorem dX17_holds_33 : decode cX17_holds 33 = .ok (.aload_n 0, 1) := dk_42 (dk_at dksX17_holds_1 9 rfl rfl)
theorem dX17_holds_34 : decode cX17_holds 34 = .ok (.getfield 13, 3) := dk_180 0 13 (dk_at dksX17_holds_1 10 rfl rfl)
theorem dX17_holds_37 : decode cX17_holds 37 = .ok (.ifnonnull 7, 3) := dk_199 0 7 (dk_at dksX17_holds_1 13 rfl rfl)
theorem dX17_holds_40 : decode cX17_holds 40 = .ok (.lconst 0, 1) := dk_9 (dk_at dksX17_holds_1 16 rfl rfl)
theorem dX17_holds_41 : decode cX17_holds 41 = .ok (.goto 11, 3) := dk_167 0 11 (dk_at dksX17_holds_1 17 rfl rfl)
theorem dX17_holds_44 : decode cX17_holds 44 = .ok (.aload_n 0, 1) := dk_42 (dk_at dksX17_holds_1 20 rfl rfl)
theorem dX17_holds_45 : decode cX17_holds 45 = .ok (.getfield 13, 3) := dk_180 0 13 (dk_at dksX17_holds_1 21 rfl rfl)
theorem dX17_holds_48 : decode cX17_holds 48 = .ok (.aload_n 1, 1) := dk_43 (dk_at dksX17_holds_2 0 rfl rfl)
theorem dX17_holds_49 : decode cX17_holds 49 = .ok (.invokevirtual 33, 3) := dk_182 0 33 (dk_at dksX17_holds_2 1 rfl rfl)
theorem dX17_holds_52 : decode cX17_holds 52 = .ok (.putfield 38, 3) := dk_181 0 38 (dk_at dksX17_holds_2 4 rfl rfl)
theorem dX17_holds_55 : decode cX17_holds 55 = .ok (.aload_n 1, 1) := dk_43 (dk_at dksX17_holds_2 7 rfl rfl)
theorem dX17_holds_56 : decode cX17_holds 56 = .ok (.getfield 21, 3) := dk_180 0 21 (dk_at dksX17_holds_2 8 rfl rfl)
theorem dX17_holds_59 : decode cX17_holds 59 = .ok (.ifCond .ne 7, 3) := dk_154 0 7 (dk_at dksX17_holds_2 11 rfl rfl)
theorem dX17_holds_62 : decode cX17_holds 62 = .ok (.iconst 1, 1) := dk_4 (dk_at dksX17_holds_2 14 rfl rfl)
theorem dX17_holds_63 : decode cX17_holds 63 = .ok (.goto 4, 3) := dk_167 0 4 (dk_at dksX17_holds_2 15 rfl rfl)
theorem dX17_holds_66 : decode cX17_holds 66 = .ok (.iconst 0, 1) := dk_3 (dk_at dksX17_holds_2 18 rfl rfl)
theorem dX17_holds_67 : decode cX17_holds 67 = .ok (.ireturn, 1) := dk_172 (dk_at dksX17_holds_2 19 rfl rfl)
theorem q120 : (Jvm.Cond.initialized "FiveTouch$Clause") ∈ lw_all := lw_g (lw_at lw_m1 35 rfl) rfl
theorem q210 : (Jvm.Cond.fieldLinkNest "FiveTouch$Clause" (21 : Nat) "FiveTouch$Asked" "isBroken" "Z" "FiveTouch") ∈ lw_tbl := lw_at lw_m1 125 rfl
theorem q466 : (Jvm.Cond.selects "FiveTouch$Clause" ({ cls := "java/lang/Object", name := "getClass", desc := "()Ljava/lang/Class;" } : Jvm.MethodName) ({ cls := "java/lang/Object", name := "getClass", desc := "()Ljava/lang/Class;" } : Jvm.MethodName)) ∈ lw_all := lw_g (lw_at lw_m2 141 rfl) rfl
theorem q926 : (Jvm.Cond.instantiable "FiveTouch$Clause" (4 : Nat)) ∈ lw_all := lw_g (lw_at lw_m4 121 rfl) rfl
theorem q928 : (Jvm.Cond.instanceMethod ({ cls := "FiveTouch$Clause", name := "<init>", desc := "(ILFiveTouch$Sum;LFiveTouch$Test;)V" } : Jvm.MethodName)) ∈ lw_all := lw_g (lw_at lw_m4 123 rfl) rfl
theorem q929 : (Jvm.Cond.code ({ cls := "FiveTouch$Clause", name := "<init>", desc := "(ILFiveTouch$Sum;LFiveTouch$Test;)V" } : Jvm.MethodName) prog_5_method_1_code (4 : Nat) (Option.none : Option Jvm.ClassFile.FieldType)) ∈ lw_all := lw_g (lw_at lw_m4 124 rfl) rfl
theorem q930 : (Jvm.Cond.methodLink "FiveTouch$Clause" (1 : Nat) ({ cls := "java/lang/Object", name := "<init>", desc := "()V" } : Jvm.MethodName)) ∈ lw_all := lw_g (lw_at lw_m4 125 rfl) rfl
theorem q931 : (Jvm.Cond.fieldLink "FiveTouch$Clause" (7 : Nat) "FiveTouch$Clause" "head" "I") ∈ lw_all := lw_g (lw_at lw_m4 126 rfl) rfl
theorem q933 : (Jvm.Cond.fieldLink "FiveTouch$Clause" (13 : Nat) "FiveTouch$Clause" "sum" "LFiveTouch$Sum;") ∈ lw_all := lw_g (lw_at lw_m4 128 rfl) rfl
theorem q934 : (Jvm.Cond.fieldLink "FiveTouch$Clause" (17 : Nat) "FiveTouch$Clause" "test" "LFiveTouch$Test;") ∈ lw_all := lw_g (lw_at lw_m4 129 rfl) rfl
theorem q935 : (Jvm.Cond.fieldLink "FiveTouch$Clause" (38 : Nat) "FiveTouch$Clause" "told" "J") ∈ lw_all := lw_g (lw_at lw_m4 130 rfl) rfl
theorem q937 : (Jvm.Cond.laysFinal "FiveTouch$Clause" "FiveTouch$Clause" "head" "I") ∈ lw_all := lw_g (lw_at lw_m4 132 rfl) rfl
theorem q938 : (Jvm.Cond.soleField "FiveTouch$Clause" "head") ∈ lw_all := lw_g (lw_at lw_m4 133 rfl) rfl
theorem q939 : (Jvm.Cond.laysFinal "FiveTouch$Clause" "FiveTouch$Clause" "sum" "LFiveTouch$Sum;") ∈ lw_all := lw_g (lw_at lw_m4 134 rfl) rfl
theorem q940 : (Jvm.Cond.soleField "FiveTouch$Clause" "sum") ∈ lw_all := lw_g (lw_at lw_m4 135 rfl) rfl
theorem q941 : (Jvm.Cond.laysFinal "FiveTouch$Clause" "FiveTouch$Clause" "test" "LFiveTouch$Test;") ∈ lw_all := lw_g (lw_at lw_m4 136 rfl) rfl
theorem q942 : (Jvm.Cond.soleField "FiveTouch$Clause" "test") ∈ lw_all := lw_g (lw_at lw_m4 137 rfl) rfl
theorem q943 : (Jvm.Cond.lays "FiveTouch$Clause" "FiveTouch$Clause" "told" "J") ∈ lw_all := lw_g (lw_at lw_m4 138 rfl) rfl
theorem q944 : (Jvm.Cond.soleField "FiveTouch$Clause" "told") ∈ lw_all := lw_g (lw_at lw_m4 139 rfl) rfl
theorem q945 : (Jvm.Cond.superclass "FiveTouch$Clause" "java/lang/Object") ∈ lw_all := lw_g (lw_at lw_m4 140 rfl) rfl
theorem q989 : (Jvm.Cond.instanceMethod ({ cls := "FiveTouch$Clause", name := "holds", desc := "(LFiveTouch$Asked;)Z" } : Jvm.MethodName)) ∈ lw_all := lw_g (lw_at lw_m4 184 rfl) rfl
theorem q990 : (Jvm.Cond.selects "FiveTouch$Clause" ({ cls := "FiveTouch$Clause", name := "holds", desc := "(LFiveTouch$Asked;)Z" } : Jvm.MethodName) ({ cls := "FiveTouch$Clause", name := "holds", desc := "(LFiveTouch$Asked;)Z" } : Jvm.MethodName)) ∈ lw_all := lw_g (lw_at lw_m4 185 rfl) rfl
theorem q991 : (Jvm.Cond.code ({ cls := "FiveTouch$Clause", name := "holds", desc := "(LFiveTouch$Asked;)Z" } : Jvm.MethodName) prog_5_method_2_code (2 : Nat) (Option.some Jvm.ClassFile.FieldType.boolean)) ∈ lw_all := lw_g (lw_at lw_m4 186 rfl) rfl
theorem q992 : (Jvm.Cond.methodLink "FiveTouch$Clause" (27 : Nat) ({ cls := "FiveTouch$Test", name := "of", desc := "(LFiveTouch$Asked;)Z" } : Jvm.MethodName)) ∈ lw_all := lw_g (lw_at lw_m4 187 rfl) rfl
theorem q1025 : (Jvm.Cond.methodLink "FiveTouch$Clause" (33 : Nat) ({ cls := "FiveTouch$Sum", name := "of", desc := "(LFiveTouch$Asked;)J" } : Jvm.MethodName)) ∈ lw_all := lw_g (lw_at lw_m4 220 rfl) rfl
theorem q1858 : (Jvm.Cond.castable "FiveTouch$Clause" "java/lang/Object") ∈ lw_tbl := lw_at lw_m8 93 rfl
theorem in_X17 : ∀ w ∈ wsX170, w ∈ lw_all := lw_in wsX170 [937, 939, 941, 943] (by decide +kernel) (by decide +kernel)
/-! FiveTouch$Search -/
set_option maxRecDepth 100000
def RX18 : String := "FiveTouch$Search"
abbrev cX18_init : ByteArray := prog_17_method_1_code
def yX18_init : MethodName := ⟨RX18, "<init>", "(LFiveTouch;)V"⟩
def dkwX18_init_0 : List UInt8 := [42, 43, 181, 0, 1, 42, 183, 0, 7, 42, 42, 180, 0, 1, 180, 0, 13, 182, 0, 19, 181, 0, 25, 177]
abbrev dktX18_init_0 : List UInt8 := dkwX18_init_0 ++ []
theorem dksX18_init_0 : cX18_init.data.toList.drop 0 = dktX18_init_0 := by decide +kernel
theorem dX18_init_0 : decode cX18_init 0 = .ok (.aload_n 0, 1) := dk_42 (dk_at dksX18_init_0 0 rfl rfl)
theorem dX18_init_1 : decode cX18_init 1 = .ok (.aload_n 1, 1) := dk_43 (dk_at dksX18_init_0 1 rfl rfl)
theorem dX18_init_2 : decode cX18_init 2 = .ok (.putfield 1, 3) := dk_181 0 1 (dk_at dksX18_init_0 2 rfl rfl)
theorem dX18_init_5 : decode cX18_init 5 = .ok (.aload_n 0, 1) := dk_42 (dk_at dksX18_init_0 5 rfl rfl)
theorem dX18_init_6 : decode cX18_init 6 = .ok (.invokespecial 7, 3) := dk_183 0 7 (dk_at dksX18_init_0 6 rfl rfl)
theorem dX18_init_9 : decode cX18_init 9 = .ok (.aload_n 0, 1) := dk_42 (dk_at dksX18_init_0 9 rfl rfl)
theorem dX18_init_10 : decode cX18_init 10 = .ok (.aload_n 0, 1) := dk_42 (dk_at dksX18_init_0 10 rfl rfl)
theorem dX18_init_11 : decode cX18_init 11 = .ok (.getfield 1, 3) := dk_180 0 1 (dk_at dksX18_init_0 11 rfl rfl)
theorem dX18_init_14 : decode cX18_init 14 = .ok (.getfield 13, 3) := dk_180 0 13 (dk_at dksX18_init_0 14 rfl rfl)
theorem dX18_init_17 : decode cX18_init 17 = .ok (.invokevirtual 19, 3) := dk_182 0 19 (dk_at dksX18_init_0 17 rfl rfl)
theorem dX18_init_20 : decode cX18_init 20 = .ok (.putfield 25, 3) := dk_181 0 25 (dk_at dksX18_init_0 20 rfl rfl)
theorem dX18_init_23 : decode cX18_init 23 = .ok (.return_, 1) := dk_177 (dk_at dksX18_init_0 23 rfl rfl)
abbrev cX18_go : ByteArray := prog_17_method_2_code
def yX18_go : MethodName := ⟨RX18, "go", "(I)V"⟩
def dkwX18_go_2 : List UInt8 := [27, 126, 61, 28, 154, 255, 207, 177]
abbrev dktX18_go_2 : List UInt8 := dkwX18_go_2 ++ []
def dkwX18_go_1 : List UInt8 := [182, 0, 39, 153, 0, 8, 42, 28, 181, 0, 36, 42, 89, 180, 0, 32, 4, 96, 181, 0, 32, 28, 27, 100]
abbrev dktX18_go_1 : List UInt8 := dkwX18_go_1 ++ dktX18_go_2
def dkwX18_go_0 : List UInt8 := [3, 61, 42, 28, 182, 0, 28, 153, 0, 37, 42, 180, 0, 32, 153, 0, 15, 42, 28, 42, 180, 0, 36]
abbrev dktX18_go_0 : List UInt8 := dkwX18_go_0 ++ dktX18_go_1
theorem dksX18_go_0 : cX18_go.data.toList.drop 0 = dktX18_go_0 := by decide +kernel
theorem dksX18_go_1 : cX18_go.data.toList.drop 23 = dktX18_go_1 := dk_seg dksX18_go_0 23 rfl rfl
theorem dksX18_go_2 : cX18_go.data.toList.drop 47 = dktX18_go_2 := dk_seg dksX18_go_1 24 rfl rfl
theorem dX18_go_0 : decode cX18_go 0 = .ok (.iconst 0, 1) := dk_3 (dk_at dksX18_go_0 0 rfl rfl)
theorem dX18_go_1 : decode cX18_go 1 = .ok (.istore_n 2, 1) := dk_61 (dk_at dksX18_go_0 1 rfl rfl)
theorem dX18_go_2 : decode cX18_go 2 = .ok (.aload_n 0, 1) := dk_42 (dk_at dksX18_go_0 2 rfl rfl)
theorem dX18_go_3 : decode cX18_go 3 = .ok (.iload_n 2, 1) := dk_28 (dk_at dksX18_go_0 3 rfl rfl)
theorem dX18_go_4 : decode cX18_go 4 = .ok (.invokevirtual 28, 3) := dk_182 0 28 (dk_at dksX18_go_0 4 rfl rfl)
theorem dX18_go_7 : decode cX18_go 7 = .ok (.ifCond .eq 37, 3) := dk_153 0 37 (dk_at dksX18_go_0 7 rfl rfl)
theorem dX18_go_10 : decode cX18_go 10 = .ok (.aload_n 0, 1) := dk_42 (dk_at dksX18_go_0 10 rfl rfl)
theorem dX18_go_11 : decode cX18_go 11 = .ok (.getfield 32, 3) := dk_180 0 32 (dk_at dksX18_go_0 11 rfl rfl)
theorem dX18_go_14 : decode cX18_go 14 = .ok (.ifCond .eq 15, 3) := dk_153 0 15 (dk_at dksX18_go_0 14 rfl rfl)
theorem dX18_go_17 : decode cX18_go 17 = .ok (.aload_n 0, 1) := dk_42 (dk_at dksX18_go_0 17 rfl rfl)
theorem dX18_go_18 : decode cX18_go 18 = .ok (.iload_n 2, 1) := dk_28 (dk_at dksX18_go_0 18 rfl rfl)
theorem dX18_go_19 : decode cX18_go 19 = .ok (.aload_n 0, 1) := dk_42 (dk_at dksX18_go_0 19 rfl rfl)
theorem dX18_go_20 : decode cX18_go 20 = .ok (.getfield 36, 3) := dk_180 0 36 (dk_at dksX18_go_0 20 rfl rfl)
theorem dX18_go_23 : decode cX18_go 23 = .ok (.invokevirtual 39, 3) := dk_182 0 39 (dk_at dksX18_go_1 0 rfl rfl)
theorem dX18_go_26 : decode cX18_go 26 = .ok (.ifCond .eq 8, 3) := dk_153 0 8 (dk_at dksX18_go_1 3 rfl rfl)
theorem dX18_go_29 : decode cX18_go 29 = .ok (.aload_n 0, 1) := dk_42 (dk_at dksX18_go_1 6 rfl rfl)
theorem dX18_go_30 : decode cX18_go 30 = .ok (.iload_n 2, 1) := dk_28 (dk_at dksX18_go_1 7 rfl rfl)
theorem dX18_go_31 : decode cX18_go 31 = .ok (.putfield 36, 3) := dk_181 0 36 (dk_at dksX18_go_1 8 rfl rfl)
theorem dX18_go_34 : decode cX18_go 34 = .ok (.aload_n 0, 1) := dk_42 (dk_at dksX18_go_1 11 rfl rfl)
theorem dX18_go_35 : decode cX18_go 35 = .ok (.dup, 1) := dk_89 (dk_at dksX18_go_1 12 rfl rfl)
theorem dX18_go_36 : decode cX18_go 36 = .ok (.getfield 32, 3) := dk_180 0 32 (dk_at dksX18_go_1 13 rfl rfl)
theorem dX18_go_39 : decode cX18_go 39 = .ok (.iconst 1, 1) := dk_4 (dk_at dksX18_go_1 16 rfl rfl)
theorem dX18_go_40 : decode cX18_go 40 = .ok (.iadd, 1) := dk_96 (dk_at dksX18_go_1 17 rfl rfl)
theorem dX18_go_41 : decode cX18_go 41 = .ok (.putfield 32, 3) := dk_181 0 32 (dk_at dksX18_go_1 18 rfl rfl)
theorem dX18_go_44 : decode cX18_go 44 = .ok (.iload_n 2, 1) := dk_28 (dk_at dksX18_go_1 21 rfl rfl)
theorem dX18_go_45 : decode cX18_go 45 = .ok (.iload_n 1, 1) := dk_27 (dk_at dksX18_go_1 22 rfl rfl)
theorem dX18_go_46 : decode cX18_go 46 = .ok (.isub, 1) := dk_100 (dk_at dksX18_go_1 23 rfl rfl)
theorem dX18_go_47 : decode cX18_go 47 = .ok (.iload_n 1, 1) := dk_27 (dk_at dksX18_go_2 0 rfl rfl)
theorem dX18_go_48 : decode cX18_go 48 = .ok (.iand, 1) := dk_126 (dk_at dksX18_go_2 1 rfl rfl)
theorem dX18_go_49 : decode cX18_go 49 = .ok (.istore_n 2, 1) := dk_61 (dk_at dksX18_go_2 2 rfl rfl)
theorem dX18_go_50 : decode cX18_go 50 = .ok (.iload_n 2, 1) := dk_28 (dk_at dksX18_go_2 3 rfl rfl)
theorem dX18_go_51 : decode cX18_go 51 = .ok (.ifCond .ne (-49), 3) := dk_154 255 207 (dk_at dksX18_go_2 4 rfl rfl)
theorem dX18_go_54 : decode cX18_go 54 = .ok (.return_, 1) := dk_177 (dk_at dksX18_go_2 7 rfl rfl)
theorem q122 : (Jvm.Cond.initialized "FiveTouch$Search") ∈ lw_all := lw_g (lw_at lw_m1 37 rfl) rfl
theorem q283 : (Jvm.Cond.fieldLinkNest "FiveTouch$Search" (13 : Nat) "FiveTouch" "scene" "LFiveTouch$Scene;" "FiveTouch") ∈ lw_tbl := lw_at lw_m1 198 rfl
theorem q1130 : (Jvm.Cond.instanceMethod ({ cls := "FiveTouch$Search", name := "<init>", desc := "(LFiveTouch;)V" } : Jvm.MethodName)) ∈ lw_all := lw_g (lw_at lw_m5 85 rfl) rfl
theorem q1131 : (Jvm.Cond.code ({ cls := "FiveTouch$Search", name := "<init>", desc := "(LFiveTouch;)V" } : Jvm.MethodName) prog_17_method_1_code (2 : Nat) (Option.none : Option Jvm.ClassFile.FieldType)) ∈ lw_all := lw_g (lw_at lw_m5 86 rfl) rfl
theorem q1132 : (Jvm.Cond.methodLink "FiveTouch$Search" (7 : Nat) ({ cls := "java/lang/Object", name := "<init>", desc := "()V" } : Jvm.MethodName)) ∈ lw_all := lw_g (lw_at lw_m5 87 rfl) rfl
theorem q1133 : (Jvm.Cond.methodLink "FiveTouch$Search" (19 : Nat) ({ cls := "FiveTouch$Scene", name := "make", desc := "()LFiveTouch$Scene;" } : Jvm.MethodName)) ∈ lw_all := lw_g (lw_at lw_m5 88 rfl) rfl
theorem q1136 : (Jvm.Cond.declares ({ cls := "FiveTouch$Search", name := "go", desc := "(I)V" } : Jvm.MethodName)) ∈ lw_tbl := lw_at lw_m5 91 rfl
theorem q1138 : (Jvm.Cond.instanceMethod ({ cls := "FiveTouch$Search", name := "go", desc := "(I)V" } : Jvm.MethodName)) ∈ lw_all := lw_g (lw_at lw_m5 93 rfl) rfl
theorem q1139 : (Jvm.Cond.code ({ cls := "FiveTouch$Search", name := "go", desc := "(I)V" } : Jvm.MethodName) prog_17_method_2_code (3 : Nat) (Option.none : Option Jvm.ClassFile.FieldType)) ∈ lw_all := lw_g (lw_at lw_m5 94 rfl) rfl
theorem q1140 : (Jvm.Cond.methodLink "FiveTouch$Search" (28 : Nat) ({ cls := "FiveTouch$Search", name := "counts", desc := "(I)Z" } : Jvm.MethodName)) ∈ lw_all := lw_g (lw_at lw_m5 95 rfl) rfl
theorem q1141 : (Jvm.Cond.declares ({ cls := "FiveTouch$Search", name := "counts", desc := "(I)Z" } : Jvm.MethodName)) ∈ lw_tbl := lw_at lw_m5 96 rfl
theorem q1142 : (Jvm.Cond.sameMethod "FiveTouch$Search" "FiveTouch$Search" "counts" "(I)Z") ∈ lw_all := lw_g (lw_at lw_m5 97 rfl) rfl
theorem q1161 : (Jvm.Cond.methodLink "FiveTouch$Search" (39 : Nat) ({ cls := "FiveTouch$Search", name := "isBetter", desc := "(II)Z" } : Jvm.MethodName)) ∈ lw_all := lw_g (lw_at lw_m5 116 rfl) rfl
theorem q1162 : (Jvm.Cond.declares ({ cls := "FiveTouch$Search", name := "isBetter", desc := "(II)Z" } : Jvm.MethodName)) ∈ lw_tbl := lw_at lw_m5 117 rfl
theorem q1163 : (Jvm.Cond.sameMethod "FiveTouch$Search" "FiveTouch$Search" "isBetter" "(II)Z") ∈ lw_all := lw_g (lw_at lw_m5 118 rfl) rfl
theorem q1184 : (Jvm.Cond.fieldLink "FiveTouch$Search" (25 : Nat) "FiveTouch$Search" "made" "LFiveTouch$Scene;") ∈ lw_all := lw_g (lw_at lw_m5 139 rfl) rfl
theorem q1193 : (Jvm.Cond.fieldLink "FiveTouch$Search" (36 : Nat) "FiveTouch$Search" "best" "I") ∈ lw_all := lw_g (lw_at lw_m5 148 rfl) rfl
theorem q1195 : (Jvm.Cond.fieldLink "FiveTouch$Search" (32 : Nat) "FiveTouch$Search" "many" "I") ∈ lw_all := lw_g (lw_at lw_m5 150 rfl) rfl
theorem q1197 : (Jvm.Cond.fieldLink "FiveTouch$Search" (1 : Nat) "FiveTouch$Search" "this$0" "LFiveTouch;") ∈ lw_all := lw_g (lw_at lw_m5 152 rfl) rfl
theorem q1201 : (Jvm.Cond.soleField "FiveTouch$Search" "made") ∈ lw_all := lw_g (lw_at lw_m5 156 rfl) rfl
theorem q1203 : (Jvm.Cond.soleField "FiveTouch$Search" "best") ∈ lw_all := lw_g (lw_at lw_m5 158 rfl) rfl
theorem q1205 : (Jvm.Cond.soleField "FiveTouch$Search" "many") ∈ lw_all := lw_g (lw_at lw_m5 160 rfl) rfl
theorem q1207 : (Jvm.Cond.soleField "FiveTouch$Search" "this$0") ∈ lw_all := lw_g (lw_at lw_m5 162 rfl) rfl
/-! FiveTouch$AtOnce -/
set_option maxRecDepth 100000
def RX19 : String := "FiveTouch$AtOnce"
def TX19 : u_T := fun k => match k with
  | 0 => ("FiveTouch$Search", "made", "LFiveTouch$Scene;", true)
  | 1 => ("FiveTouch$Search", "best", "I", false)
  | 2 => ("FiveTouch$Search", "many", "I", false)
  | 3 => ("FiveTouch$Search", "this$0", "LFiveTouch;", true)
  | _ => ("FiveTouch$AtOnce", "this$0", "LFiveTouch;", true)
def tyX19 : Nat → FieldType := fun k => match k with
  | 0 => .object "FiveTouch$Scene"
  | 1 => .int
  | 2 => .int
  | 3 => .object "FiveTouch"
  | _ => .object "FiveTouch"
abbrev wsX190 : List Cond := u_ws RX19 TX19 5
-- two fields of one name: no nmX19
theorem tyX19_ok : ∀ k, k < 5 → parseFieldDescriptor (TX19 k).2.2.1 = some (tyX19 k) := by decide +kernel
abbrev cX19_init : ByteArray := prog_4_method_1_code
def yX19_init : MethodName := ⟨RX19, "<init>", "(LFiveTouch;)V"⟩
def dkwX19_init_0 : List UInt8 := [42, 43, 181, 0, 1, 42, 43, 183, 0, 7, 42, 43, 180, 0, 13, 180, 0, 19, 182, 0, 25, 177]
abbrev dktX19_init_0 : List UInt8 := dkwX19_init_0 ++ []
theorem dksX19_init_0 : cX19_init.data.toList.drop 0 = dktX19_init_0 := by decide +kernel
theorem dX19_init_0 : decode cX19_init 0 = .ok (.aload_n 0, 1) := dk_42 (dk_at dksX19_init_0 0 rfl rfl)
theorem dX19_init_1 : decode cX19_init 1 = .ok (.aload_n 1, 1) := dk_43 (dk_at dksX19_init_0 1 rfl rfl)
theorem dX19_init_2 : decode cX19_init 2 = .ok (.putfield 1, 3) := dk_181 0 1 (dk_at dksX19_init_0 2 rfl rfl)
theorem dX19_init_5 : decode cX19_init 5 = .ok (.aload_n 0, 1) := dk_42 (dk_at dksX19_init_0 5 rfl rfl)
theorem dX19_init_6 : decode cX19_init 6 = .ok (.aload_n 1, 1) := dk_43 (dk_at dksX19_init_0 6 rfl rfl)
theorem dX19_init_7 : decode cX19_init 7 = .ok (.invokespecial 7, 3) := dk_183 0 7 (dk_at dksX19_init_0 7 rfl rfl)
theorem dX19_init_10 : decode cX19_init 10 = .ok (.aload_n 0, 1) := dk_42 (dk_at dksX19_init_0 10 rfl rfl)
theorem dX19_init_11 : decode cX19_init 11 = .ok (.aload_n 1, 1) := dk_43 (dk_at dksX19_init_0 11 rfl rfl)
theorem dX19_init_12 : decode cX19_init 12 = .ok (.getfield 13, 3) := dk_180 0 13 (dk_at dksX19_init_0 12 rfl rfl)
theorem dX19_init_15 : decode cX19_init 15 = .ok (.getfield 19, 3) := dk_180 0 19 (dk_at dksX19_init_0 15 rfl rfl)
theorem dX19_init_18 : decode cX19_init 18 = .ok (.invokevirtual 25, 3) := dk_182 0 25 (dk_at dksX19_init_0 18 rfl rfl)
theorem dX19_init_21 : decode cX19_init 21 = .ok (.return_, 1) := dk_177 (dk_at dksX19_init_0 21 rfl rfl)
abbrev cX19_counts : ByteArray := prog_4_method_2_code
def yX19_counts : MethodName := ⟨RX19, "counts", "(I)Z"⟩
def dkwX19_counts_0 : List UInt8 := [42, 180, 0, 29, 42, 180, 0, 1, 180, 0, 13, 180, 0, 19, 27, 2, 130, 126, 182, 0, 33, 172]
abbrev dktX19_counts_0 : List UInt8 := dkwX19_counts_0 ++ []
theorem dksX19_counts_0 : cX19_counts.data.toList.drop 0 = dktX19_counts_0 := by decide +kernel
theorem dX19_counts_0 : decode cX19_counts 0 = .ok (.aload_n 0, 1) := dk_42 (dk_at dksX19_counts_0 0 rfl rfl)
theorem dX19_counts_1 : decode cX19_counts 1 = .ok (.getfield 29, 3) := dk_180 0 29 (dk_at dksX19_counts_0 1 rfl rfl)
theorem dX19_counts_4 : decode cX19_counts 4 = .ok (.aload_n 0, 1) := dk_42 (dk_at dksX19_counts_0 4 rfl rfl)
theorem dX19_counts_5 : decode cX19_counts 5 = .ok (.getfield 1, 3) := dk_180 0 1 (dk_at dksX19_counts_0 5 rfl rfl)
theorem dX19_counts_8 : decode cX19_counts 8 = .ok (.getfield 13, 3) := dk_180 0 13 (dk_at dksX19_counts_0 8 rfl rfl)
theorem dX19_counts_11 : decode cX19_counts 11 = .ok (.getfield 19, 3) := dk_180 0 19 (dk_at dksX19_counts_0 11 rfl rfl)
theorem dX19_counts_14 : decode cX19_counts 14 = .ok (.iload_n 1, 1) := dk_27 (dk_at dksX19_counts_0 14 rfl rfl)
theorem dX19_counts_15 : decode cX19_counts 15 = .ok (.iconst (-1), 1) := dk_2 (dk_at dksX19_counts_0 15 rfl rfl)
theorem dX19_counts_16 : decode cX19_counts 16 = .ok (.ixor, 1) := dk_130 (dk_at dksX19_counts_0 16 rfl rfl)
theorem dX19_counts_17 : decode cX19_counts 17 = .ok (.iand, 1) := dk_126 (dk_at dksX19_counts_0 17 rfl rfl)
theorem dX19_counts_18 : decode cX19_counts 18 = .ok (.invokevirtual 33, 3) := dk_182 0 33 (dk_at dksX19_counts_0 18 rfl rfl)
theorem dX19_counts_21 : decode cX19_counts 21 = .ok (.ireturn, 1) := dk_172 (dk_at dksX19_counts_0 21 rfl rfl)
abbrev cX19_isBetter : ByteArray := prog_4_method_3_code
def yX19_isBetter : MethodName := ⟨RX19, "isBetter", "(II)Z"⟩
def dkwX19_isBetter_0 : List UInt8 := [42, 180, 0, 1, 27, 28, 182, 0, 39, 172]
abbrev dktX19_isBetter_0 : List UInt8 := dkwX19_isBetter_0 ++ []
theorem dksX19_isBetter_0 : cX19_isBetter.data.toList.drop 0 = dktX19_isBetter_0 := by decide +kernel
theorem dX19_isBetter_0 : decode cX19_isBetter 0 = .ok (.aload_n 0, 1) := dk_42 (dk_at dksX19_isBetter_0 0 rfl rfl)
theorem dX19_isBetter_1 : decode cX19_isBetter 1 = .ok (.getfield 1, 3) := dk_180 0 1 (dk_at dksX19_isBetter_0 1 rfl rfl)
theorem dX19_isBetter_4 : decode cX19_isBetter 4 = .ok (.iload_n 1, 1) := dk_27 (dk_at dksX19_isBetter_0 4 rfl rfl)
theorem dX19_isBetter_5 : decode cX19_isBetter 5 = .ok (.iload_n 2, 1) := dk_28 (dk_at dksX19_isBetter_0 5 rfl rfl)
theorem dX19_isBetter_6 : decode cX19_isBetter 6 = .ok (.invokevirtual 39, 3) := dk_182 0 39 (dk_at dksX19_isBetter_0 6 rfl rfl)
theorem dX19_isBetter_9 : decode cX19_isBetter 9 = .ok (.ireturn, 1) := dk_172 (dk_at dksX19_isBetter_0 9 rfl rfl)
theorem q123 : (Jvm.Cond.initialized "FiveTouch$AtOnce") ∈ lw_all := lw_g (lw_at lw_m1 38 rfl) rfl
theorem q179 : (Jvm.Cond.fieldLinkNest "FiveTouch$AtOnce" (19 : Nat) "FiveTouch$Yard" "there" "I" "FiveTouch") ∈ lw_tbl := lw_at lw_m1 94 rfl
theorem q265 : (Jvm.Cond.fieldLinkNest "FiveTouch$AtOnce" (13 : Nat) "FiveTouch" "yard" "LFiveTouch$Yard;" "FiveTouch") ∈ lw_tbl := lw_at lw_m1 180 rfl
theorem q465 : (Jvm.Cond.selects "FiveTouch$AtOnce" ({ cls := "java/lang/Object", name := "getClass", desc := "()Ljava/lang/Class;" } : Jvm.MethodName) ({ cls := "java/lang/Object", name := "getClass", desc := "()Ljava/lang/Class;" } : Jvm.MethodName)) ∈ lw_all := lw_g (lw_at lw_m2 140 rfl) rfl
theorem q1125 : (Jvm.Cond.instantiable "FiveTouch$AtOnce" (5 : Nat)) ∈ lw_all := lw_g (lw_at lw_m5 80 rfl) rfl
theorem q1127 : (Jvm.Cond.instanceMethod ({ cls := "FiveTouch$AtOnce", name := "<init>", desc := "(LFiveTouch;)V" } : Jvm.MethodName)) ∈ lw_all := lw_g (lw_at lw_m5 82 rfl) rfl
theorem q1128 : (Jvm.Cond.code ({ cls := "FiveTouch$AtOnce", name := "<init>", desc := "(LFiveTouch;)V" } : Jvm.MethodName) prog_4_method_1_code (2 : Nat) (Option.none : Option Jvm.ClassFile.FieldType)) ∈ lw_all := lw_g (lw_at lw_m5 83 rfl) rfl
theorem q1129 : (Jvm.Cond.methodLinkNest "FiveTouch$AtOnce" (7 : Nat) ({ cls := "FiveTouch$Search", name := "<init>", desc := "(LFiveTouch;)V" } : Jvm.MethodName) "FiveTouch") ∈ lw_tbl := lw_at lw_m5 84 rfl
theorem q1134 : (Jvm.Cond.methodLink "FiveTouch$AtOnce" (25 : Nat) ({ cls := "FiveTouch$AtOnce", name := "go", desc := "(I)V" } : Jvm.MethodName)) ∈ lw_all := lw_g (lw_at lw_m5 89 rfl) rfl
theorem q1135 : (Jvm.Cond.sameMethod "FiveTouch$AtOnce" "FiveTouch$Search" "go" "(I)V") ∈ lw_all := lw_g (lw_at lw_m5 90 rfl) rfl
theorem q1137 : (Jvm.Cond.selects "FiveTouch$AtOnce" ({ cls := "FiveTouch$AtOnce", name := "go", desc := "(I)V" } : Jvm.MethodName) ({ cls := "FiveTouch$Search", name := "go", desc := "(I)V" } : Jvm.MethodName)) ∈ lw_all := lw_g (lw_at lw_m5 92 rfl) rfl
theorem q1143 : (Jvm.Cond.selects "FiveTouch$AtOnce" ({ cls := "FiveTouch$Search", name := "counts", desc := "(I)Z" } : Jvm.MethodName) ({ cls := "FiveTouch$AtOnce", name := "counts", desc := "(I)Z" } : Jvm.MethodName)) ∈ lw_all := lw_g (lw_at lw_m5 98 rfl) rfl
theorem q1144 : (Jvm.Cond.instanceMethod ({ cls := "FiveTouch$AtOnce", name := "counts", desc := "(I)Z" } : Jvm.MethodName)) ∈ lw_all := lw_g (lw_at lw_m5 99 rfl) rfl
theorem q1145 : (Jvm.Cond.code ({ cls := "FiveTouch$AtOnce", name := "counts", desc := "(I)Z" } : Jvm.MethodName) prog_4_method_2_code (2 : Nat) (Option.some Jvm.ClassFile.FieldType.boolean)) ∈ lw_all := lw_g (lw_at lw_m5 100 rfl) rfl
theorem q1146 : (Jvm.Cond.methodLink "FiveTouch$AtOnce" (33 : Nat) ({ cls := "FiveTouch$Scene", name := "isLawful", desc := "(I)Z" } : Jvm.MethodName)) ∈ lw_all := lw_g (lw_at lw_m5 101 rfl) rfl
theorem q1164 : (Jvm.Cond.selects "FiveTouch$AtOnce" ({ cls := "FiveTouch$Search", name := "isBetter", desc := "(II)Z" } : Jvm.MethodName) ({ cls := "FiveTouch$AtOnce", name := "isBetter", desc := "(II)Z" } : Jvm.MethodName)) ∈ lw_all := lw_g (lw_at lw_m5 119 rfl) rfl
theorem q1165 : (Jvm.Cond.instanceMethod ({ cls := "FiveTouch$AtOnce", name := "isBetter", desc := "(II)Z" } : Jvm.MethodName)) ∈ lw_all := lw_g (lw_at lw_m5 120 rfl) rfl
theorem q1166 : (Jvm.Cond.code ({ cls := "FiveTouch$AtOnce", name := "isBetter", desc := "(II)Z" } : Jvm.MethodName) prog_4_method_3_code (3 : Nat) (Option.some Jvm.ClassFile.FieldType.boolean)) ∈ lw_all := lw_g (lw_at lw_m5 121 rfl) rfl
theorem q1167 : (Jvm.Cond.methodLinkNest "FiveTouch$AtOnce" (39 : Nat) ({ cls := "FiveTouch", name := "isMore", desc := "(II)Z" } : Jvm.MethodName) "FiveTouch") ∈ lw_tbl := lw_at lw_m5 122 rfl
theorem q1183 : (Jvm.Cond.fieldLink "FiveTouch$AtOnce" (1 : Nat) "FiveTouch$AtOnce" "this$0" "LFiveTouch;") ∈ lw_all := lw_g (lw_at lw_m5 138 rfl) rfl
theorem q1187 : (Jvm.Cond.fieldLink "FiveTouch$AtOnce" (29 : Nat) "FiveTouch$AtOnce" "made" "LFiveTouch$Scene;") ∈ lw_all := lw_g (lw_at lw_m5 142 rfl) rfl
theorem q1188 : (Jvm.Cond.sameField "FiveTouch$AtOnce" "FiveTouch$Search" "made" "LFiveTouch$Scene;") ∈ lw_all := lw_g (lw_at lw_m5 143 rfl) rfl
theorem q1198 : (Jvm.Cond.laysFinal "FiveTouch$AtOnce" "FiveTouch$AtOnce" "this$0" "LFiveTouch;") ∈ lw_all := lw_g (lw_at lw_m5 153 rfl) rfl
theorem q1199 : (Jvm.Cond.soleField "FiveTouch$AtOnce" "this$0") ∈ lw_all := lw_g (lw_at lw_m5 154 rfl) rfl
theorem q1200 : (Jvm.Cond.laysFinal "FiveTouch$AtOnce" "FiveTouch$Search" "made" "LFiveTouch$Scene;") ∈ lw_all := lw_g (lw_at lw_m5 155 rfl) rfl
theorem q1202 : (Jvm.Cond.lays "FiveTouch$AtOnce" "FiveTouch$Search" "best" "I") ∈ lw_all := lw_g (lw_at lw_m5 157 rfl) rfl
theorem q1204 : (Jvm.Cond.lays "FiveTouch$AtOnce" "FiveTouch$Search" "many" "I") ∈ lw_all := lw_g (lw_at lw_m5 159 rfl) rfl
theorem q1206 : (Jvm.Cond.laysFinal "FiveTouch$AtOnce" "FiveTouch$Search" "this$0" "LFiveTouch;") ∈ lw_all := lw_g (lw_at lw_m5 161 rfl) rfl
theorem q1208 : (Jvm.Cond.superclass "FiveTouch$AtOnce" "FiveTouch$Search") ∈ lw_all := lw_g (lw_at lw_m5 163 rfl) rfl
theorem q1877 : (Jvm.Cond.castable "FiveTouch$AtOnce" "java/lang/Object") ∈ lw_tbl := lw_at lw_m8 112 rfl
theorem in_X19 : ∀ w ∈ wsX190, w ∈ lw_all := lw_in wsX190 [1200, 1202, 1204, 1206, 1198] (by decide +kernel) (by decide +kernel)
/-! FiveTouch$OneByOne -/
set_option maxRecDepth 100000
def RX20 : String := "FiveTouch$OneByOne"
def TX20 : u_T := fun k => match k with
  | 0 => ("FiveTouch$Search", "made", "LFiveTouch$Scene;", true)
  | 1 => ("FiveTouch$Search", "best", "I", false)
  | 2 => ("FiveTouch$Search", "many", "I", false)
  | 3 => ("FiveTouch$Search", "this$0", "LFiveTouch;", true)
  | _ => ("FiveTouch$OneByOne", "this$0", "LFiveTouch;", true)
def tyX20 : Nat → FieldType := fun k => match k with
  | 0 => .object "FiveTouch$Scene"
  | 1 => .int
  | 2 => .int
  | 3 => .object "FiveTouch"
  | _ => .object "FiveTouch"
abbrev wsX200 : List Cond := u_ws RX20 TX20 5
-- two fields of one name: no nmX20
theorem tyX20_ok : ∀ k, k < 5 → parseFieldDescriptor (TX20 k).2.2.1 = some (tyX20 k) := by decide +kernel
abbrev cX20_counts : ByteArray := prog_12_method_3_code
def yX20_counts : MethodName := ⟨RX20, "counts", "(I)Z"⟩
def dkwX20_counts_0 : List UInt8 := [42, 180, 0, 3, 180, 0, 25, 42, 180, 0, 3, 180, 0, 15, 180, 0, 19, 27, 2, 130, 126, 51, 172]
abbrev dktX20_counts_0 : List UInt8 := dkwX20_counts_0 ++ []
theorem dksX20_counts_0 : cX20_counts.data.toList.drop 0 = dktX20_counts_0 := by decide +kernel
theorem dX20_counts_0 : decode cX20_counts 0 = .ok (.aload_n 0, 1) := dk_42 (dk_at dksX20_counts_0 0 rfl rfl)
theorem dX20_counts_1 : decode cX20_counts 1 = .ok (.getfield 3, 3) := dk_180 0 3 (dk_at dksX20_counts_0 1 rfl rfl)
theorem dX20_counts_4 : decode cX20_counts 4 = .ok (.getfield 25, 3) := dk_180 0 25 (dk_at dksX20_counts_0 4 rfl rfl)
theorem dX20_counts_7 : decode cX20_counts 7 = .ok (.aload_n 0, 1) := dk_42 (dk_at dksX20_counts_0 7 rfl rfl)
theorem dX20_counts_8 : decode cX20_counts 8 = .ok (.getfield 3, 3) := dk_180 0 3 (dk_at dksX20_counts_0 8 rfl rfl)
theorem dX20_counts_11 : decode cX20_counts 11 = .ok (.getfield 15, 3) := dk_180 0 15 (dk_at dksX20_counts_0 11 rfl rfl)
theorem dX20_counts_14 : decode cX20_counts 14 = .ok (.getfield 19, 3) := dk_180 0 19 (dk_at dksX20_counts_0 14 rfl rfl)
theorem dX20_counts_17 : decode cX20_counts 17 = .ok (.iload_n 1, 1) := dk_27 (dk_at dksX20_counts_0 17 rfl rfl)
theorem dX20_counts_18 : decode cX20_counts 18 = .ok (.iconst (-1), 1) := dk_2 (dk_at dksX20_counts_0 18 rfl rfl)
theorem dX20_counts_19 : decode cX20_counts 19 = .ok (.ixor, 1) := dk_130 (dk_at dksX20_counts_0 19 rfl rfl)
theorem dX20_counts_20 : decode cX20_counts 20 = .ok (.iand, 1) := dk_126 (dk_at dksX20_counts_0 20 rfl rfl)
theorem dX20_counts_21 : decode cX20_counts 21 = .ok (.baload, 1) := dk_51 (dk_at dksX20_counts_0 21 rfl rfl)
theorem dX20_counts_22 : decode cX20_counts 22 = .ok (.ireturn, 1) := dk_172 (dk_at dksX20_counts_0 22 rfl rfl)
abbrev cX20_isBetter : ByteArray := prog_12_method_4_code
def yX20_isBetter : MethodName := ⟨RX20, "isBetter", "(II)Z"⟩
def dkwX20_isBetter_0 : List UInt8 := [42, 180, 0, 3, 27, 28, 182, 0, 50, 172]
abbrev dktX20_isBetter_0 : List UInt8 := dkwX20_isBetter_0 ++ []
theorem dksX20_isBetter_0 : cX20_isBetter.data.toList.drop 0 = dktX20_isBetter_0 := by decide +kernel
theorem dX20_isBetter_0 : decode cX20_isBetter 0 = .ok (.aload_n 0, 1) := dk_42 (dk_at dksX20_isBetter_0 0 rfl rfl)
theorem dX20_isBetter_1 : decode cX20_isBetter 1 = .ok (.getfield 3, 3) := dk_180 0 3 (dk_at dksX20_isBetter_0 1 rfl rfl)
theorem dX20_isBetter_4 : decode cX20_isBetter 4 = .ok (.iload_n 1, 1) := dk_27 (dk_at dksX20_isBetter_0 4 rfl rfl)
theorem dX20_isBetter_5 : decode cX20_isBetter 5 = .ok (.iload_n 2, 1) := dk_28 (dk_at dksX20_isBetter_0 5 rfl rfl)
theorem dX20_isBetter_6 : decode cX20_isBetter 6 = .ok (.invokevirtual 50, 3) := dk_182 0 50 (dk_at dksX20_isBetter_0 6 rfl rfl)
theorem dX20_isBetter_9 : decode cX20_isBetter 9 = .ok (.ireturn, 1) := dk_172 (dk_at dksX20_isBetter_0 9 rfl rfl)
abbrev cX20_init : ByteArray := prog_12_method_1_code
def yX20_init : MethodName := ⟨RX20, "<init>", "(LFiveTouch;)V"⟩
def dkwX20_init_3 : List UInt8 := [180, 0, 15, 180, 0, 19, 126, 61, 167, 255, 196, 42, 43, 180, 0, 15, 180, 0, 19, 182, 0, 42, 177]
abbrev dktX20_init_3 : List UInt8 := dkwX20_init_3 ++ []
def dkwX20_init_2 : List UInt8 := [182, 0, 39, 153, 0, 7, 4, 167, 0, 4, 3, 84, 28, 154, 0, 6, 167, 0, 18, 28, 4, 100, 43]
abbrev dktX20_init_2 : List UInt8 := dkwX20_init_2 ++ dktX20_init_3
def dkwX20_init_1 : List UInt8 := [180, 0, 29, 28, 182, 0, 33, 153, 0, 26, 28, 43, 180, 0, 15, 180, 0, 19, 159, 0, 11, 42, 28]
abbrev dktX20_init_1 : List UInt8 := dkwX20_init_1 ++ dktX20_init_2
def dkwX20_init_0 : List UInt8 := [42, 43, 181, 0, 3, 42, 43, 183, 0, 9, 43, 180, 0, 15, 180, 0, 19, 61, 43, 180, 0, 25, 28, 42]
abbrev dktX20_init_0 : List UInt8 := dkwX20_init_0 ++ dktX20_init_1
theorem dksX20_init_0 : cX20_init.data.toList.drop 0 = dktX20_init_0 := by decide +kernel
theorem dksX20_init_1 : cX20_init.data.toList.drop 24 = dktX20_init_1 := dk_seg dksX20_init_0 24 rfl rfl
theorem dksX20_init_2 : cX20_init.data.toList.drop 47 = dktX20_init_2 := dk_seg dksX20_init_1 23 rfl rfl
theorem dksX20_init_3 : cX20_init.data.toList.drop 70 = dktX20_init_3 := dk_seg dksX20_init_2 23 rfl rfl
theorem dX20_init_0 : decode cX20_init 0 = .ok (.aload_n 0, 1) := dk_42 (dk_at dksX20_init_0 0 rfl rfl)
theorem dX20_init_1 : decode cX20_init 1 = .ok (.aload_n 1, 1) := dk_43 (dk_at dksX20_init_0 1 rfl rfl)
theorem dX20_init_2 : decode cX20_init 2 = .ok (.putfield 3, 3) := dk_181 0 3 (dk_at dksX20_init_0 2 rfl rfl)
theorem dX20_init_5 : decode cX20_init 5 = .ok (.aload_n 0, 1) := dk_42 (dk_at dksX20_init_0 5 rfl rfl)
theorem dX20_init_6 : decode cX20_init 6 = .ok (.aload_n 1, 1) := dk_43 (dk_at dksX20_init_0 6 rfl rfl)
theorem dX20_init_7 : decode cX20_init 7 = .ok (.invokespecial 9, 3) := dk_183 0 9 (dk_at dksX20_init_0 7 rfl rfl)
theorem dX20_init_10 : decode cX20_init 10 = .ok (.aload_n 1, 1) := dk_43 (dk_at dksX20_init_0 10 rfl rfl)
theorem dX20_init_11 : decode cX20_init 11 = .ok (.getfield 15, 3) := dk_180 0 15 (dk_at dksX20_init_0 11 rfl rfl)
theorem dX20_init_14 : decode cX20_init 14 = .ok (.getfield 19, 3) := dk_180 0 19 (dk_at dksX20_init_0 14 rfl rfl)
theorem dX20_init_17 : decode cX20_init 17 = .ok (.istore_n 2, 1) := dk_61 (dk_at dksX20_init_0 17 rfl rfl)
theorem dX20_init_18 : decode cX20_init 18 = .ok (.aload_n 1, 1) := dk_43 (dk_at dksX20_init_0 18 rfl rfl)
theorem dX20_init_19 : decode cX20_init 19 = .ok (.getfield 25, 3) := dk_180 0 25 (dk_at dksX20_init_0 19 rfl rfl)
theorem dX20_init_22 : decode cX20_init 22 = .ok (.iload_n 2, 1) := dk_28 (dk_at dksX20_init_0 22 rfl rfl)
theorem dX20_init_23 : decode cX20_init 23 = .ok (.aload_n 0, 1) := dk_42 (dk_at dksX20_init_0 23 rfl rfl)
theorem dX20_init_24 : decode cX20_init 24 = .ok (.getfield 29, 3) := dk_180 0 29 (dk_at dksX20_init_1 0 rfl rfl)
theorem dX20_init_27 : decode cX20_init 27 = .ok (.iload_n 2, 1) := dk_28 (dk_at dksX20_init_1 3 rfl rfl)
theorem dX20_init_28 : decode cX20_init 28 = .ok (.invokevirtual 33, 3) := dk_182 0 33 (dk_at dksX20_init_1 4 rfl rfl)
theorem dX20_init_31 : decode cX20_init 31 = .ok (.ifCond .eq 26, 3) := dk_153 0 26 (dk_at dksX20_init_1 7 rfl rfl)
theorem dX20_init_34 : decode cX20_init 34 = .ok (.iload_n 2, 1) := dk_28 (dk_at dksX20_init_1 10 rfl rfl)
theorem dX20_init_35 : decode cX20_init 35 = .ok (.aload_n 1, 1) := dk_43 (dk_at dksX20_init_1 11 rfl rfl)
theorem dX20_init_36 : decode cX20_init 36 = .ok (.getfield 15, 3) := dk_180 0 15 (dk_at dksX20_init_1 12 rfl rfl)
theorem dX20_init_39 : decode cX20_init 39 = .ok (.getfield 19, 3) := dk_180 0 19 (dk_at dksX20_init_1 15 rfl rfl)
theorem dX20_init_42 : decode cX20_init 42 = .ok (.if_icmp .eq 11, 3) := dk_159 0 11 (dk_at dksX20_init_1 18 rfl rfl)
theorem dX20_init_45 : decode cX20_init 45 = .ok (.aload_n 0, 1) := dk_42 (dk_at dksX20_init_1 21 rfl rfl)
theorem dX20_init_46 : decode cX20_init 46 = .ok (.iload_n 2, 1) := dk_28 (dk_at dksX20_init_1 22 rfl rfl)
theorem dX20_init_47 : decode cX20_init 47 = .ok (.invokevirtual 39, 3) := dk_182 0 39 (dk_at dksX20_init_2 0 rfl rfl)
theorem dX20_init_50 : decode cX20_init 50 = .ok (.ifCond .eq 7, 3) := dk_153 0 7 (dk_at dksX20_init_2 3 rfl rfl)
theorem dX20_init_53 : decode cX20_init 53 = .ok (.iconst 1, 1) := dk_4 (dk_at dksX20_init_2 6 rfl rfl)
theorem dX20_init_54 : decode cX20_init 54 = .ok (.goto 4, 3) := dk_167 0 4 (dk_at dksX20_init_2 7 rfl rfl)
theorem dX20_init_57 : decode cX20_init 57 = .ok (.iconst 0, 1) := dk_3 (dk_at dksX20_init_2 10 rfl rfl)
theorem dX20_init_58 : decode cX20_init 58 = .ok (.bastore, 1) := dk_84 (dk_at dksX20_init_2 11 rfl rfl)
theorem dX20_init_59 : decode cX20_init 59 = .ok (.iload_n 2, 1) := dk_28 (dk_at dksX20_init_2 12 rfl rfl)
theorem dX20_init_60 : decode cX20_init 60 = .ok (.ifCond .ne 6, 3) := dk_154 0 6 (dk_at dksX20_init_2 13 rfl rfl)
theorem dX20_init_63 : decode cX20_init 63 = .ok (.goto 18, 3) := dk_167 0 18 (dk_at dksX20_init_2 16 rfl rfl)
theorem dX20_init_66 : decode cX20_init 66 = .ok (.iload_n 2, 1) := dk_28 (dk_at dksX20_init_2 19 rfl rfl)
theorem dX20_init_67 : decode cX20_init 67 = .ok (.iconst 1, 1) := dk_4 (dk_at dksX20_init_2 20 rfl rfl)
theorem dX20_init_68 : decode cX20_init 68 = .ok (.isub, 1) := dk_100 (dk_at dksX20_init_2 21 rfl rfl)
theorem dX20_init_69 : decode cX20_init 69 = .ok (.aload_n 1, 1) := dk_43 (dk_at dksX20_init_2 22 rfl rfl)
theorem dX20_init_70 : decode cX20_init 70 = .ok (.getfield 15, 3) := dk_180 0 15 (dk_at dksX20_init_3 0 rfl rfl)
theorem dX20_init_73 : decode cX20_init 73 = .ok (.getfield 19, 3) := dk_180 0 19 (dk_at dksX20_init_3 3 rfl rfl)
theorem dX20_init_76 : decode cX20_init 76 = .ok (.iand, 1) := dk_126 (dk_at dksX20_init_3 6 rfl rfl)
theorem dX20_init_77 : decode cX20_init 77 = .ok (.istore_n 2, 1) := dk_61 (dk_at dksX20_init_3 7 rfl rfl)
theorem dX20_init_78 : decode cX20_init 78 = .ok (.goto (-60), 3) := dk_167 255 196 (dk_at dksX20_init_3 8 rfl rfl)
theorem dX20_init_81 : decode cX20_init 81 = .ok (.aload_n 0, 1) := dk_42 (dk_at dksX20_init_3 11 rfl rfl)
theorem dX20_init_82 : decode cX20_init 82 = .ok (.aload_n 1, 1) := dk_43 (dk_at dksX20_init_3 12 rfl rfl)
theorem dX20_init_83 : decode cX20_init 83 = .ok (.getfield 15, 3) := dk_180 0 15 (dk_at dksX20_init_3 13 rfl rfl)
theorem dX20_init_86 : decode cX20_init 86 = .ok (.getfield 19, 3) := dk_180 0 19 (dk_at dksX20_init_3 16 rfl rfl)
theorem dX20_init_89 : decode cX20_init 89 = .ok (.invokevirtual 42, 3) := dk_182 0 42 (dk_at dksX20_init_3 19 rfl rfl)
theorem dX20_init_92 : decode cX20_init 92 = .ok (.return_, 1) := dk_177 (dk_at dksX20_init_3 22 rfl rfl)
abbrev cX20_isComeTo : ByteArray := prog_12_method_2_code
def yX20_isComeTo : MethodName := ⟨RX20, "isComeTo", "(I)Z"⟩
def dkwX20_isComeTo_2 : List UInt8 := [132, 2, 1, 167, 255, 208, 3, 172]
abbrev dktX20_isComeTo_2 : List UInt8 := dkwX20_isComeTo_2 ++ []
def dkwX20_isComeTo_1 : List UInt8 := [184, 0, 46, 153, 0, 21, 42, 180, 0, 3, 180, 0, 25, 27, 4, 28, 120, 128, 51, 153, 0, 5, 4, 172]
abbrev dktX20_isComeTo_1 : List UInt8 := dkwX20_isComeTo_1 ++ dktX20_isComeTo_2
def dkwX20_isComeTo_0 : List UInt8 := [3, 61, 28, 16, 14, 162, 0, 48, 42, 180, 0, 3, 180, 0, 15, 180, 0, 19, 27, 2, 130, 126, 28]
abbrev dktX20_isComeTo_0 : List UInt8 := dkwX20_isComeTo_0 ++ dktX20_isComeTo_1
theorem dksX20_isComeTo_0 : cX20_isComeTo.data.toList.drop 0 = dktX20_isComeTo_0 := by decide +kernel
theorem dksX20_isComeTo_1 : cX20_isComeTo.data.toList.drop 23 = dktX20_isComeTo_1 := dk_seg dksX20_isComeTo_0 23 rfl rfl
theorem dksX20_isComeTo_2 : cX20_isComeTo.data.toList.drop 47 = dktX20_isComeTo_2 := dk_seg dksX20_isComeTo_1 24 rfl rfl
theorem dX20_isComeTo_0 : decode cX20_isComeTo 0 = .ok (.iconst 0, 1) := dk_3 (dk_at dksX20_isComeTo_0 0 rfl rfl)
theorem dX20_isComeTo_1 : decode cX20_isComeTo 1 = .ok (.istore_n 2, 1) := dk_61 (dk_at dksX20_isComeTo_0 1 rfl rfl)
theorem dX20_isComeTo_2 : decode cX20_isComeTo 2 = .ok (.iload_n 2, 1) := dk_28 (dk_at dksX20_isComeTo_0 2 rfl rfl)
theorem dX20_isComeTo_3 : decode cX20_isComeTo 3 = .ok (.bipush 14, 2) := dk_16 14 (dk_at dksX20_isComeTo_0 3 rfl rfl)
theorem dX20_isComeTo_5 : decode cX20_isComeTo 5 = .ok (.if_icmp .ge 48, 3) := dk_162 0 48 (dk_at dksX20_isComeTo_0 5 rfl rfl)
theorem dX20_isComeTo_8 : decode cX20_isComeTo 8 = .ok (.aload_n 0, 1) := dk_42 (dk_at dksX20_isComeTo_0 8 rfl rfl)
theorem dX20_isComeTo_9 : decode cX20_isComeTo 9 = .ok (.getfield 3, 3) := dk_180 0 3 (dk_at dksX20_isComeTo_0 9 rfl rfl)
theorem dX20_isComeTo_12 : decode cX20_isComeTo 12 = .ok (.getfield 15, 3) := dk_180 0 15 (dk_at dksX20_isComeTo_0 12 rfl rfl)
theorem dX20_isComeTo_15 : decode cX20_isComeTo 15 = .ok (.getfield 19, 3) := dk_180 0 19 (dk_at dksX20_isComeTo_0 15 rfl rfl)
theorem dX20_isComeTo_18 : decode cX20_isComeTo 18 = .ok (.iload_n 1, 1) := dk_27 (dk_at dksX20_isComeTo_0 18 rfl rfl)
theorem dX20_isComeTo_19 : decode cX20_isComeTo 19 = .ok (.iconst (-1), 1) := dk_2 (dk_at dksX20_isComeTo_0 19 rfl rfl)
theorem dX20_isComeTo_20 : decode cX20_isComeTo 20 = .ok (.ixor, 1) := dk_130 (dk_at dksX20_isComeTo_0 20 rfl rfl)
theorem dX20_isComeTo_21 : decode cX20_isComeTo 21 = .ok (.iand, 1) := dk_126 (dk_at dksX20_isComeTo_0 21 rfl rfl)
theorem dX20_isComeTo_22 : decode cX20_isComeTo 22 = .ok (.iload_n 2, 1) := dk_28 (dk_at dksX20_isComeTo_0 22 rfl rfl)
theorem dX20_isComeTo_23 : decode cX20_isComeTo 23 = .ok (.invokestatic 46, 3) := dk_184 0 46 (dk_at dksX20_isComeTo_1 0 rfl rfl)
theorem dX20_isComeTo_26 : decode cX20_isComeTo 26 = .ok (.ifCond .eq 21, 3) := dk_153 0 21 (dk_at dksX20_isComeTo_1 3 rfl rfl)
theorem dX20_isComeTo_29 : decode cX20_isComeTo 29 = .ok (.aload_n 0, 1) := dk_42 (dk_at dksX20_isComeTo_1 6 rfl rfl)
theorem dX20_isComeTo_30 : decode cX20_isComeTo 30 = .ok (.getfield 3, 3) := dk_180 0 3 (dk_at dksX20_isComeTo_1 7 rfl rfl)
theorem dX20_isComeTo_33 : decode cX20_isComeTo 33 = .ok (.getfield 25, 3) := dk_180 0 25 (dk_at dksX20_isComeTo_1 10 rfl rfl)
theorem dX20_isComeTo_36 : decode cX20_isComeTo 36 = .ok (.iload_n 1, 1) := dk_27 (dk_at dksX20_isComeTo_1 13 rfl rfl)
theorem dX20_isComeTo_37 : decode cX20_isComeTo 37 = .ok (.iconst 1, 1) := dk_4 (dk_at dksX20_isComeTo_1 14 rfl rfl)
theorem dX20_isComeTo_38 : decode cX20_isComeTo 38 = .ok (.iload_n 2, 1) := dk_28 (dk_at dksX20_isComeTo_1 15 rfl rfl)
theorem dX20_isComeTo_39 : decode cX20_isComeTo 39 = .ok (.ishl, 1) := dk_120 (dk_at dksX20_isComeTo_1 16 rfl rfl)
theorem dX20_isComeTo_40 : decode cX20_isComeTo 40 = .ok (.ior, 1) := dk_128 (dk_at dksX20_isComeTo_1 17 rfl rfl)
theorem dX20_isComeTo_41 : decode cX20_isComeTo 41 = .ok (.baload, 1) := dk_51 (dk_at dksX20_isComeTo_1 18 rfl rfl)
theorem dX20_isComeTo_42 : decode cX20_isComeTo 42 = .ok (.ifCond .eq 5, 3) := dk_153 0 5 (dk_at dksX20_isComeTo_1 19 rfl rfl)
theorem dX20_isComeTo_45 : decode cX20_isComeTo 45 = .ok (.iconst 1, 1) := dk_4 (dk_at dksX20_isComeTo_1 22 rfl rfl)
theorem dX20_isComeTo_46 : decode cX20_isComeTo 46 = .ok (.ireturn, 1) := dk_172 (dk_at dksX20_isComeTo_1 23 rfl rfl)
theorem dX20_isComeTo_47 : decode cX20_isComeTo 47 = .ok (.iinc 2 1, 3) := dk_132 2 1 (dk_at dksX20_isComeTo_2 0 rfl rfl)
theorem dX20_isComeTo_50 : decode cX20_isComeTo 50 = .ok (.goto (-48), 3) := dk_167 255 208 (dk_at dksX20_isComeTo_2 3 rfl rfl)
theorem dX20_isComeTo_53 : decode cX20_isComeTo 53 = .ok (.iconst 0, 1) := dk_3 (dk_at dksX20_isComeTo_2 6 rfl rfl)
theorem dX20_isComeTo_54 : decode cX20_isComeTo 54 = .ok (.ireturn, 1) := dk_172 (dk_at dksX20_isComeTo_2 7 rfl rfl)
theorem q124 : (Jvm.Cond.initialized "FiveTouch$OneByOne") ∈ lw_all := lw_g (lw_at lw_m1 39 rfl) rfl
theorem q178 : (Jvm.Cond.fieldLinkNest "FiveTouch$OneByOne" (19 : Nat) "FiveTouch$Yard" "there" "I" "FiveTouch") ∈ lw_tbl := lw_at lw_m1 93 rfl
theorem q264 : (Jvm.Cond.fieldLinkNest "FiveTouch$OneByOne" (15 : Nat) "FiveTouch" "yard" "LFiveTouch$Yard;" "FiveTouch") ∈ lw_tbl := lw_at lw_m1 179 rfl
theorem q285 : (Jvm.Cond.fieldLinkNest "FiveTouch$OneByOne" (25 : Nat) "FiveTouch" "comes" "[Z" "FiveTouch") ∈ lw_tbl := lw_at lw_m1 200 rfl
theorem q473 : (Jvm.Cond.selects "FiveTouch$OneByOne" ({ cls := "java/lang/Object", name := "getClass", desc := "()Ljava/lang/Class;" } : Jvm.MethodName) ({ cls := "java/lang/Object", name := "getClass", desc := "()Ljava/lang/Class;" } : Jvm.MethodName)) ∈ lw_all := lw_g (lw_at lw_m2 148 rfl) rfl
theorem q1158 : (Jvm.Cond.selects "FiveTouch$OneByOne" ({ cls := "FiveTouch$Search", name := "counts", desc := "(I)Z" } : Jvm.MethodName) ({ cls := "FiveTouch$OneByOne", name := "counts", desc := "(I)Z" } : Jvm.MethodName)) ∈ lw_all := lw_g (lw_at lw_m5 113 rfl) rfl
theorem q1159 : (Jvm.Cond.instanceMethod ({ cls := "FiveTouch$OneByOne", name := "counts", desc := "(I)Z" } : Jvm.MethodName)) ∈ lw_all := lw_g (lw_at lw_m5 114 rfl) rfl
theorem q1160 : (Jvm.Cond.code ({ cls := "FiveTouch$OneByOne", name := "counts", desc := "(I)Z" } : Jvm.MethodName) prog_12_method_3_code (2 : Nat) (Option.some Jvm.ClassFile.FieldType.boolean)) ∈ lw_all := lw_g (lw_at lw_m5 115 rfl) rfl
theorem q1179 : (Jvm.Cond.selects "FiveTouch$OneByOne" ({ cls := "FiveTouch$Search", name := "isBetter", desc := "(II)Z" } : Jvm.MethodName) ({ cls := "FiveTouch$OneByOne", name := "isBetter", desc := "(II)Z" } : Jvm.MethodName)) ∈ lw_all := lw_g (lw_at lw_m5 134 rfl) rfl
theorem q1180 : (Jvm.Cond.instanceMethod ({ cls := "FiveTouch$OneByOne", name := "isBetter", desc := "(II)Z" } : Jvm.MethodName)) ∈ lw_all := lw_g (lw_at lw_m5 135 rfl) rfl
theorem q1181 : (Jvm.Cond.code ({ cls := "FiveTouch$OneByOne", name := "isBetter", desc := "(II)Z" } : Jvm.MethodName) prog_12_method_4_code (3 : Nat) (Option.some Jvm.ClassFile.FieldType.boolean)) ∈ lw_all := lw_g (lw_at lw_m5 136 rfl) rfl
theorem q1182 : (Jvm.Cond.methodLinkNest "FiveTouch$OneByOne" (50 : Nat) ({ cls := "FiveTouch", name := "isMore", desc := "(II)Z" } : Jvm.MethodName) "FiveTouch") ∈ lw_tbl := lw_at lw_m5 137 rfl
theorem q1185 : (Jvm.Cond.fieldLink "FiveTouch$OneByOne" (29 : Nat) "FiveTouch$OneByOne" "made" "LFiveTouch$Scene;") ∈ lw_all := lw_g (lw_at lw_m5 140 rfl) rfl
theorem q1186 : (Jvm.Cond.sameField "FiveTouch$OneByOne" "FiveTouch$Search" "made" "LFiveTouch$Scene;") ∈ lw_all := lw_g (lw_at lw_m5 141 rfl) rfl
theorem q1218 : (Jvm.Cond.instantiable "FiveTouch$OneByOne" (5 : Nat)) ∈ lw_all := lw_g (lw_at lw_m5 173 rfl) rfl
theorem q1220 : (Jvm.Cond.instanceMethod ({ cls := "FiveTouch$OneByOne", name := "<init>", desc := "(LFiveTouch;)V" } : Jvm.MethodName)) ∈ lw_all := lw_g (lw_at lw_m5 175 rfl) rfl
theorem q1221 : (Jvm.Cond.code ({ cls := "FiveTouch$OneByOne", name := "<init>", desc := "(LFiveTouch;)V" } : Jvm.MethodName) prog_12_method_1_code (3 : Nat) (Option.none : Option Jvm.ClassFile.FieldType)) ∈ lw_all := lw_g (lw_at lw_m5 176 rfl) rfl
theorem q1222 : (Jvm.Cond.methodLinkNest "FiveTouch$OneByOne" (9 : Nat) ({ cls := "FiveTouch$Search", name := "<init>", desc := "(LFiveTouch;)V" } : Jvm.MethodName) "FiveTouch") ∈ lw_tbl := lw_at lw_m5 177 rfl
theorem q1223 : (Jvm.Cond.methodLink "FiveTouch$OneByOne" (33 : Nat) ({ cls := "FiveTouch$Scene", name := "isLawful", desc := "(I)Z" } : Jvm.MethodName)) ∈ lw_all := lw_g (lw_at lw_m5 178 rfl) rfl
theorem q1224 : (Jvm.Cond.methodLink "FiveTouch$OneByOne" (39 : Nat) ({ cls := "FiveTouch$OneByOne", name := "isComeTo", desc := "(I)Z" } : Jvm.MethodName)) ∈ lw_all := lw_g (lw_at lw_m5 179 rfl) rfl
theorem q1225 : (Jvm.Cond.privateMethod ({ cls := "FiveTouch$OneByOne", name := "isComeTo", desc := "(I)Z" } : Jvm.MethodName)) ∈ lw_tbl := lw_at lw_m5 180 rfl
theorem q1226 : (Jvm.Cond.instanceMethod ({ cls := "FiveTouch$OneByOne", name := "isComeTo", desc := "(I)Z" } : Jvm.MethodName)) ∈ lw_all := lw_g (lw_at lw_m5 181 rfl) rfl
theorem q1227 : (Jvm.Cond.code ({ cls := "FiveTouch$OneByOne", name := "isComeTo", desc := "(I)Z" } : Jvm.MethodName) prog_12_method_2_code (3 : Nat) (Option.some Jvm.ClassFile.FieldType.boolean)) ∈ lw_all := lw_g (lw_at lw_m5 182 rfl) rfl
theorem q1228 : (Jvm.Cond.methodLinkNest "FiveTouch$OneByOne" (46 : Nat) ({ cls := "FiveTouch", name := "has", desc := "(II)Z" } : Jvm.MethodName) "FiveTouch") ∈ lw_tbl := lw_at lw_m5 183 rfl
theorem q1229 : (Jvm.Cond.methodLink "FiveTouch$OneByOne" (42 : Nat) ({ cls := "FiveTouch$OneByOne", name := "go", desc := "(I)V" } : Jvm.MethodName)) ∈ lw_all := lw_g (lw_at lw_m5 184 rfl) rfl
theorem q1230 : (Jvm.Cond.sameMethod "FiveTouch$OneByOne" "FiveTouch$Search" "go" "(I)V") ∈ lw_all := lw_g (lw_at lw_m5 185 rfl) rfl
theorem q1231 : (Jvm.Cond.selects "FiveTouch$OneByOne" ({ cls := "FiveTouch$OneByOne", name := "go", desc := "(I)V" } : Jvm.MethodName) ({ cls := "FiveTouch$Search", name := "go", desc := "(I)V" } : Jvm.MethodName)) ∈ lw_all := lw_g (lw_at lw_m5 186 rfl) rfl
theorem q1232 : (Jvm.Cond.fieldLink "FiveTouch$OneByOne" (3 : Nat) "FiveTouch$OneByOne" "this$0" "LFiveTouch;") ∈ lw_all := lw_g (lw_at lw_m5 187 rfl) rfl
theorem q1233 : (Jvm.Cond.laysFinal "FiveTouch$OneByOne" "FiveTouch$OneByOne" "this$0" "LFiveTouch;") ∈ lw_all := lw_g (lw_at lw_m5 188 rfl) rfl
theorem q1234 : (Jvm.Cond.soleField "FiveTouch$OneByOne" "this$0") ∈ lw_all := lw_g (lw_at lw_m5 189 rfl) rfl
theorem q1235 : (Jvm.Cond.laysFinal "FiveTouch$OneByOne" "FiveTouch$Search" "made" "LFiveTouch$Scene;") ∈ lw_all := lw_g (lw_at lw_m5 190 rfl) rfl
theorem q1236 : (Jvm.Cond.lays "FiveTouch$OneByOne" "FiveTouch$Search" "best" "I") ∈ lw_all := lw_g (lw_at lw_m5 191 rfl) rfl
theorem q1237 : (Jvm.Cond.lays "FiveTouch$OneByOne" "FiveTouch$Search" "many" "I") ∈ lw_all := lw_g (lw_at lw_m5 192 rfl) rfl
theorem q1238 : (Jvm.Cond.laysFinal "FiveTouch$OneByOne" "FiveTouch$Search" "this$0" "LFiveTouch;") ∈ lw_all := lw_g (lw_at lw_m5 193 rfl) rfl
theorem q1239 : (Jvm.Cond.superclass "FiveTouch$OneByOne" "FiveTouch$Search") ∈ lw_all := lw_g (lw_at lw_m5 194 rfl) rfl
theorem q1878 : (Jvm.Cond.castable "FiveTouch$OneByOne" "java/lang/Object") ∈ lw_tbl := lw_at lw_m8 113 rfl
theorem in_X20 : ∀ w ∈ wsX200, w ∈ lw_all := lw_in wsX200 [1235, 1236, 1237, 1238, 1233] (by decide +kernel) (by decide +kernel)
/-! FiveTouch$Felling -/
set_option maxRecDepth 100000
def RX21 : String := "FiveTouch$Felling"
def TX21 : u_T := fun k => match k with
  | 0 => ("FiveTouch$Search", "made", "LFiveTouch$Scene;", true)
  | 1 => ("FiveTouch$Search", "best", "I", false)
  | 2 => ("FiveTouch$Search", "many", "I", false)
  | 3 => ("FiveTouch$Search", "this$0", "LFiveTouch;", true)
  | _ => ("FiveTouch$Felling", "this$0", "LFiveTouch;", true)
def tyX21 : Nat → FieldType := fun k => match k with
  | 0 => .object "FiveTouch$Scene"
  | 1 => .int
  | 2 => .int
  | 3 => .object "FiveTouch"
  | _ => .object "FiveTouch"
abbrev wsX210 : List Cond := u_ws RX21 TX21 5
-- two fields of one name: no nmX21
theorem tyX21_ok : ∀ k, k < 5 → parseFieldDescriptor (TX21 k).2.2.1 = some (tyX21 k) := by decide +kernel
abbrev cX21_counts : ByteArray := prog_8_method_2_code
def yX21_counts : MethodName := ⟨RX21, "counts", "(I)Z"⟩
def dkwX21_counts_1 : List UInt8 := [4, 167, 0, 4, 3, 172]
abbrev dktX21_counts_1 : List UInt8 := dkwX21_counts_1 ++ []
def dkwX21_counts_0 : List UInt8 := [42, 180, 0, 29, 42, 180, 0, 1, 180, 0, 13, 180, 0, 19, 27, 2, 130, 126, 182, 0, 33, 154, 0, 7]
abbrev dktX21_counts_0 : List UInt8 := dkwX21_counts_0 ++ dktX21_counts_1
theorem dksX21_counts_0 : cX21_counts.data.toList.drop 0 = dktX21_counts_0 := by decide +kernel
theorem dksX21_counts_1 : cX21_counts.data.toList.drop 24 = dktX21_counts_1 := dk_seg dksX21_counts_0 24 rfl rfl
theorem dX21_counts_0 : decode cX21_counts 0 = .ok (.aload_n 0, 1) := dk_42 (dk_at dksX21_counts_0 0 rfl rfl)
theorem dX21_counts_1 : decode cX21_counts 1 = .ok (.getfield 29, 3) := dk_180 0 29 (dk_at dksX21_counts_0 1 rfl rfl)
theorem dX21_counts_4 : decode cX21_counts 4 = .ok (.aload_n 0, 1) := dk_42 (dk_at dksX21_counts_0 4 rfl rfl)
theorem dX21_counts_5 : decode cX21_counts 5 = .ok (.getfield 1, 3) := dk_180 0 1 (dk_at dksX21_counts_0 5 rfl rfl)
theorem dX21_counts_8 : decode cX21_counts 8 = .ok (.getfield 13, 3) := dk_180 0 13 (dk_at dksX21_counts_0 8 rfl rfl)
theorem dX21_counts_11 : decode cX21_counts 11 = .ok (.getfield 19, 3) := dk_180 0 19 (dk_at dksX21_counts_0 11 rfl rfl)
theorem dX21_counts_14 : decode cX21_counts 14 = .ok (.iload_n 1, 1) := dk_27 (dk_at dksX21_counts_0 14 rfl rfl)
theorem dX21_counts_15 : decode cX21_counts 15 = .ok (.iconst (-1), 1) := dk_2 (dk_at dksX21_counts_0 15 rfl rfl)
theorem dX21_counts_16 : decode cX21_counts 16 = .ok (.ixor, 1) := dk_130 (dk_at dksX21_counts_0 16 rfl rfl)
theorem dX21_counts_17 : decode cX21_counts 17 = .ok (.iand, 1) := dk_126 (dk_at dksX21_counts_0 17 rfl rfl)
theorem dX21_counts_18 : decode cX21_counts 18 = .ok (.invokevirtual 33, 3) := dk_182 0 33 (dk_at dksX21_counts_0 18 rfl rfl)
theorem dX21_counts_21 : decode cX21_counts 21 = .ok (.ifCond .ne 7, 3) := dk_154 0 7 (dk_at dksX21_counts_0 21 rfl rfl)
theorem dX21_counts_24 : decode cX21_counts 24 = .ok (.iconst 1, 1) := dk_4 (dk_at dksX21_counts_1 0 rfl rfl)
theorem dX21_counts_25 : decode cX21_counts 25 = .ok (.goto 4, 3) := dk_167 0 4 (dk_at dksX21_counts_1 1 rfl rfl)
theorem dX21_counts_28 : decode cX21_counts 28 = .ok (.iconst 0, 1) := dk_3 (dk_at dksX21_counts_1 4 rfl rfl)
theorem dX21_counts_29 : decode cX21_counts 29 = .ok (.ireturn, 1) := dk_172 (dk_at dksX21_counts_1 5 rfl rfl)
abbrev cX21_isBetter : ByteArray := prog_8_method_3_code
def yX21_isBetter : MethodName := ⟨RX21, "isBetter", "(II)Z"⟩
def dkwX21_isBetter_0 : List UInt8 := [27, 184, 0, 39, 28, 184, 0, 39, 162, 0, 7, 4, 167, 0, 4, 3, 172]
abbrev dktX21_isBetter_0 : List UInt8 := dkwX21_isBetter_0 ++ []
theorem dksX21_isBetter_0 : cX21_isBetter.data.toList.drop 0 = dktX21_isBetter_0 := by decide +kernel
theorem dX21_isBetter_0 : decode cX21_isBetter 0 = .ok (.iload_n 1, 1) := dk_27 (dk_at dksX21_isBetter_0 0 rfl rfl)
theorem dX21_isBetter_1 : decode cX21_isBetter 1 = .ok (.invokestatic 39, 3) := dk_184 0 39 (dk_at dksX21_isBetter_0 1 rfl rfl)
theorem dX21_isBetter_4 : decode cX21_isBetter 4 = .ok (.iload_n 2, 1) := dk_28 (dk_at dksX21_isBetter_0 4 rfl rfl)
theorem dX21_isBetter_5 : decode cX21_isBetter 5 = .ok (.invokestatic 39, 3) := dk_184 0 39 (dk_at dksX21_isBetter_0 5 rfl rfl)
theorem dX21_isBetter_8 : decode cX21_isBetter 8 = .ok (.if_icmp .ge 7, 3) := dk_162 0 7 (dk_at dksX21_isBetter_0 8 rfl rfl)
theorem dX21_isBetter_11 : decode cX21_isBetter 11 = .ok (.iconst 1, 1) := dk_4 (dk_at dksX21_isBetter_0 11 rfl rfl)
theorem dX21_isBetter_12 : decode cX21_isBetter 12 = .ok (.goto 4, 3) := dk_167 0 4 (dk_at dksX21_isBetter_0 12 rfl rfl)
theorem dX21_isBetter_15 : decode cX21_isBetter 15 = .ok (.iconst 0, 1) := dk_3 (dk_at dksX21_isBetter_0 15 rfl rfl)
theorem dX21_isBetter_16 : decode cX21_isBetter 16 = .ok (.ireturn, 1) := dk_172 (dk_at dksX21_isBetter_0 16 rfl rfl)
abbrev cX21_init : ByteArray := prog_8_method_1_code
def yX21_init : MethodName := ⟨RX21, "<init>", "(LFiveTouch;)V"⟩
def dkwX21_init_0 : List UInt8 := [42, 43, 181, 0, 1, 42, 43, 183, 0, 7, 42, 43, 180, 0, 13, 180, 0, 19, 182, 0, 25, 177]
abbrev dktX21_init_0 : List UInt8 := dkwX21_init_0 ++ []
theorem dksX21_init_0 : cX21_init.data.toList.drop 0 = dktX21_init_0 := by decide +kernel
theorem dX21_init_0 : decode cX21_init 0 = .ok (.aload_n 0, 1) := dk_42 (dk_at dksX21_init_0 0 rfl rfl)
theorem dX21_init_1 : decode cX21_init 1 = .ok (.aload_n 1, 1) := dk_43 (dk_at dksX21_init_0 1 rfl rfl)
theorem dX21_init_2 : decode cX21_init 2 = .ok (.putfield 1, 3) := dk_181 0 1 (dk_at dksX21_init_0 2 rfl rfl)
theorem dX21_init_5 : decode cX21_init 5 = .ok (.aload_n 0, 1) := dk_42 (dk_at dksX21_init_0 5 rfl rfl)
theorem dX21_init_6 : decode cX21_init 6 = .ok (.aload_n 1, 1) := dk_43 (dk_at dksX21_init_0 6 rfl rfl)
theorem dX21_init_7 : decode cX21_init 7 = .ok (.invokespecial 7, 3) := dk_183 0 7 (dk_at dksX21_init_0 7 rfl rfl)
theorem dX21_init_10 : decode cX21_init 10 = .ok (.aload_n 0, 1) := dk_42 (dk_at dksX21_init_0 10 rfl rfl)
theorem dX21_init_11 : decode cX21_init 11 = .ok (.aload_n 1, 1) := dk_43 (dk_at dksX21_init_0 11 rfl rfl)
theorem dX21_init_12 : decode cX21_init 12 = .ok (.getfield 13, 3) := dk_180 0 13 (dk_at dksX21_init_0 12 rfl rfl)
theorem dX21_init_15 : decode cX21_init 15 = .ok (.getfield 19, 3) := dk_180 0 19 (dk_at dksX21_init_0 15 rfl rfl)
theorem dX21_init_18 : decode cX21_init 18 = .ok (.invokevirtual 25, 3) := dk_182 0 25 (dk_at dksX21_init_0 18 rfl rfl)
theorem dX21_init_21 : decode cX21_init 21 = .ok (.return_, 1) := dk_177 (dk_at dksX21_init_0 21 rfl rfl)
theorem q125 : (Jvm.Cond.initialized "FiveTouch$Felling") ∈ lw_all := lw_g (lw_at lw_m1 40 rfl) rfl
theorem q180 : (Jvm.Cond.fieldLinkNest "FiveTouch$Felling" (19 : Nat) "FiveTouch$Yard" "there" "I" "FiveTouch") ∈ lw_tbl := lw_at lw_m1 95 rfl
theorem q266 : (Jvm.Cond.fieldLinkNest "FiveTouch$Felling" (13 : Nat) "FiveTouch" "yard" "LFiveTouch$Yard;" "FiveTouch") ∈ lw_tbl := lw_at lw_m1 181 rfl
theorem q469 : (Jvm.Cond.selects "FiveTouch$Felling" ({ cls := "java/lang/Object", name := "getClass", desc := "()Ljava/lang/Class;" } : Jvm.MethodName) ({ cls := "java/lang/Object", name := "getClass", desc := "()Ljava/lang/Class;" } : Jvm.MethodName)) ∈ lw_all := lw_g (lw_at lw_m2 144 rfl) rfl
theorem q1150 : (Jvm.Cond.selects "FiveTouch$Felling" ({ cls := "FiveTouch$Search", name := "counts", desc := "(I)Z" } : Jvm.MethodName) ({ cls := "FiveTouch$Felling", name := "counts", desc := "(I)Z" } : Jvm.MethodName)) ∈ lw_all := lw_g (lw_at lw_m5 105 rfl) rfl
theorem q1151 : (Jvm.Cond.instanceMethod ({ cls := "FiveTouch$Felling", name := "counts", desc := "(I)Z" } : Jvm.MethodName)) ∈ lw_all := lw_g (lw_at lw_m5 106 rfl) rfl
theorem q1152 : (Jvm.Cond.code ({ cls := "FiveTouch$Felling", name := "counts", desc := "(I)Z" } : Jvm.MethodName) prog_8_method_2_code (2 : Nat) (Option.some Jvm.ClassFile.FieldType.boolean)) ∈ lw_all := lw_g (lw_at lw_m5 107 rfl) rfl
theorem q1153 : (Jvm.Cond.methodLink "FiveTouch$Felling" (33 : Nat) ({ cls := "FiveTouch$Scene", name := "fall", desc := "(I)I" } : Jvm.MethodName)) ∈ lw_all := lw_g (lw_at lw_m5 108 rfl) rfl
theorem q1171 : (Jvm.Cond.selects "FiveTouch$Felling" ({ cls := "FiveTouch$Search", name := "isBetter", desc := "(II)Z" } : Jvm.MethodName) ({ cls := "FiveTouch$Felling", name := "isBetter", desc := "(II)Z" } : Jvm.MethodName)) ∈ lw_all := lw_g (lw_at lw_m5 126 rfl) rfl
theorem q1172 : (Jvm.Cond.instanceMethod ({ cls := "FiveTouch$Felling", name := "isBetter", desc := "(II)Z" } : Jvm.MethodName)) ∈ lw_all := lw_g (lw_at lw_m5 127 rfl) rfl
theorem q1173 : (Jvm.Cond.code ({ cls := "FiveTouch$Felling", name := "isBetter", desc := "(II)Z" } : Jvm.MethodName) prog_8_method_3_code (3 : Nat) (Option.some Jvm.ClassFile.FieldType.boolean)) ∈ lw_all := lw_g (lw_at lw_m5 128 rfl) rfl
theorem q1174 : (Jvm.Cond.methodLinkNest "FiveTouch$Felling" (39 : Nat) ({ cls := "FiveTouch", name := "size", desc := "(I)I" } : Jvm.MethodName) "FiveTouch") ∈ lw_tbl := lw_at lw_m5 129 rfl
theorem q1189 : (Jvm.Cond.fieldLink "FiveTouch$Felling" (29 : Nat) "FiveTouch$Felling" "made" "LFiveTouch$Scene;") ∈ lw_all := lw_g (lw_at lw_m5 144 rfl) rfl
theorem q1190 : (Jvm.Cond.sameField "FiveTouch$Felling" "FiveTouch$Search" "made" "LFiveTouch$Scene;") ∈ lw_all := lw_g (lw_at lw_m5 145 rfl) rfl
theorem q1250 : (Jvm.Cond.instantiable "FiveTouch$Felling" (5 : Nat)) ∈ lw_all := lw_g (lw_at lw_m5 205 rfl) rfl
theorem q1252 : (Jvm.Cond.instanceMethod ({ cls := "FiveTouch$Felling", name := "<init>", desc := "(LFiveTouch;)V" } : Jvm.MethodName)) ∈ lw_all := lw_g (lw_at lw_m5 207 rfl) rfl
theorem q1253 : (Jvm.Cond.code ({ cls := "FiveTouch$Felling", name := "<init>", desc := "(LFiveTouch;)V" } : Jvm.MethodName) prog_8_method_1_code (2 : Nat) (Option.none : Option Jvm.ClassFile.FieldType)) ∈ lw_all := lw_g (lw_at lw_m5 208 rfl) rfl
theorem q1254 : (Jvm.Cond.methodLinkNest "FiveTouch$Felling" (7 : Nat) ({ cls := "FiveTouch$Search", name := "<init>", desc := "(LFiveTouch;)V" } : Jvm.MethodName) "FiveTouch") ∈ lw_tbl := lw_at lw_m5 209 rfl
theorem q1255 : (Jvm.Cond.methodLink "FiveTouch$Felling" (25 : Nat) ({ cls := "FiveTouch$Felling", name := "go", desc := "(I)V" } : Jvm.MethodName)) ∈ lw_all := lw_g (lw_at lw_m5 210 rfl) rfl
theorem q1256 : (Jvm.Cond.sameMethod "FiveTouch$Felling" "FiveTouch$Search" "go" "(I)V") ∈ lw_all := lw_g (lw_at lw_m5 211 rfl) rfl
theorem q1257 : (Jvm.Cond.selects "FiveTouch$Felling" ({ cls := "FiveTouch$Felling", name := "go", desc := "(I)V" } : Jvm.MethodName) ({ cls := "FiveTouch$Search", name := "go", desc := "(I)V" } : Jvm.MethodName)) ∈ lw_all := lw_g (lw_at lw_m5 212 rfl) rfl
theorem q1258 : (Jvm.Cond.fieldLink "FiveTouch$Felling" (1 : Nat) "FiveTouch$Felling" "this$0" "LFiveTouch;") ∈ lw_all := lw_g (lw_at lw_m5 213 rfl) rfl
theorem q1259 : (Jvm.Cond.laysFinal "FiveTouch$Felling" "FiveTouch$Felling" "this$0" "LFiveTouch;") ∈ lw_all := lw_g (lw_at lw_m5 214 rfl) rfl
theorem q1260 : (Jvm.Cond.soleField "FiveTouch$Felling" "this$0") ∈ lw_all := lw_g (lw_at lw_m5 215 rfl) rfl
theorem q1261 : (Jvm.Cond.laysFinal "FiveTouch$Felling" "FiveTouch$Search" "made" "LFiveTouch$Scene;") ∈ lw_all := lw_g (lw_at lw_m5 216 rfl) rfl
theorem q1262 : (Jvm.Cond.lays "FiveTouch$Felling" "FiveTouch$Search" "best" "I") ∈ lw_all := lw_g (lw_at lw_m5 217 rfl) rfl
theorem q1263 : (Jvm.Cond.lays "FiveTouch$Felling" "FiveTouch$Search" "many" "I") ∈ lw_all := lw_g (lw_at lw_m5 218 rfl) rfl
theorem q1264 : (Jvm.Cond.laysFinal "FiveTouch$Felling" "FiveTouch$Search" "this$0" "LFiveTouch;") ∈ lw_all := lw_g (lw_at lw_m5 219 rfl) rfl
theorem q1265 : (Jvm.Cond.superclass "FiveTouch$Felling" "FiveTouch$Search") ∈ lw_all := lw_g (lw_at lw_m5 220 rfl) rfl
theorem q1879 : (Jvm.Cond.castable "FiveTouch$Felling" "java/lang/Object") ∈ lw_tbl := lw_at lw_m8 114 rfl
theorem in_X21 : ∀ w ∈ wsX210, w ∈ lw_all := lw_in wsX210 [1261, 1262, 1263, 1264, 1259] (by decide +kernel) (by decide +kernel)
/-! FiveTouch$Mending -/
set_option maxRecDepth 100000
def RX22 : String := "FiveTouch$Mending"
def TX22 : u_T := fun k => match k with
  | 0 => ("FiveTouch$Search", "made", "LFiveTouch$Scene;", true)
  | 1 => ("FiveTouch$Search", "best", "I", false)
  | 2 => ("FiveTouch$Search", "many", "I", false)
  | 3 => ("FiveTouch$Search", "this$0", "LFiveTouch;", true)
  | _ => ("FiveTouch$Mending", "this$0", "LFiveTouch;", true)
def tyX22 : Nat → FieldType := fun k => match k with
  | 0 => .object "FiveTouch$Scene"
  | 1 => .int
  | 2 => .int
  | 3 => .object "FiveTouch"
  | _ => .object "FiveTouch"
abbrev wsX220 : List Cond := u_ws RX22 TX22 5
-- two fields of one name: no nmX22
theorem tyX22_ok : ∀ k, k < 5 → parseFieldDescriptor (TX22 k).2.2.1 = some (tyX22 k) := by decide +kernel
abbrev cX22_counts : ByteArray := prog_10_method_2_code
def yX22_counts : MethodName := ⟨RX22, "counts", "(I)Z"⟩
def dkwX22_counts_0 : List UInt8 := [42, 180, 0, 35, 42, 180, 0, 3, 180, 0, 15, 180, 0, 39, 27, 16, 14, 120, 128, 182, 0, 43, 172]
abbrev dktX22_counts_0 : List UInt8 := dkwX22_counts_0 ++ []
theorem dksX22_counts_0 : cX22_counts.data.toList.drop 0 = dktX22_counts_0 := by decide +kernel
theorem dX22_counts_0 : decode cX22_counts 0 = .ok (.aload_n 0, 1) := dk_42 (dk_at dksX22_counts_0 0 rfl rfl)
theorem dX22_counts_1 : decode cX22_counts 1 = .ok (.getfield 35, 3) := dk_180 0 35 (dk_at dksX22_counts_0 1 rfl rfl)
theorem dX22_counts_4 : decode cX22_counts 4 = .ok (.aload_n 0, 1) := dk_42 (dk_at dksX22_counts_0 4 rfl rfl)
theorem dX22_counts_5 : decode cX22_counts 5 = .ok (.getfield 3, 3) := dk_180 0 3 (dk_at dksX22_counts_0 5 rfl rfl)
theorem dX22_counts_8 : decode cX22_counts 8 = .ok (.getfield 15, 3) := dk_180 0 15 (dk_at dksX22_counts_0 8 rfl rfl)
theorem dX22_counts_11 : decode cX22_counts 11 = .ok (.getfield 39, 3) := dk_180 0 39 (dk_at dksX22_counts_0 11 rfl rfl)
theorem dX22_counts_14 : decode cX22_counts 14 = .ok (.iload_n 1, 1) := dk_27 (dk_at dksX22_counts_0 14 rfl rfl)
theorem dX22_counts_15 : decode cX22_counts 15 = .ok (.bipush 14, 2) := dk_16 14 (dk_at dksX22_counts_0 15 rfl rfl)
theorem dX22_counts_17 : decode cX22_counts 17 = .ok (.ishl, 1) := dk_120 (dk_at dksX22_counts_0 17 rfl rfl)
theorem dX22_counts_18 : decode cX22_counts 18 = .ok (.ior, 1) := dk_128 (dk_at dksX22_counts_0 18 rfl rfl)
theorem dX22_counts_19 : decode cX22_counts 19 = .ok (.invokevirtual 43, 3) := dk_182 0 43 (dk_at dksX22_counts_0 19 rfl rfl)
theorem dX22_counts_22 : decode cX22_counts 22 = .ok (.ireturn, 1) := dk_172 (dk_at dksX22_counts_0 22 rfl rfl)
abbrev cX22_isBetter : ByteArray := prog_10_method_3_code
def yX22_isBetter : MethodName := ⟨RX22, "isBetter", "(II)Z"⟩
def dkwX22_isBetter_0 : List UInt8 := [27, 184, 0, 49, 28, 184, 0, 49, 162, 0, 7, 4, 167, 0, 4, 3, 172]
abbrev dktX22_isBetter_0 : List UInt8 := dkwX22_isBetter_0 ++ []
theorem dksX22_isBetter_0 : cX22_isBetter.data.toList.drop 0 = dktX22_isBetter_0 := by decide +kernel
theorem dX22_isBetter_0 : decode cX22_isBetter 0 = .ok (.iload_n 1, 1) := dk_27 (dk_at dksX22_isBetter_0 0 rfl rfl)
theorem dX22_isBetter_1 : decode cX22_isBetter 1 = .ok (.invokestatic 49, 3) := dk_184 0 49 (dk_at dksX22_isBetter_0 1 rfl rfl)
theorem dX22_isBetter_4 : decode cX22_isBetter 4 = .ok (.iload_n 2, 1) := dk_28 (dk_at dksX22_isBetter_0 4 rfl rfl)
theorem dX22_isBetter_5 : decode cX22_isBetter 5 = .ok (.invokestatic 49, 3) := dk_184 0 49 (dk_at dksX22_isBetter_0 5 rfl rfl)
theorem dX22_isBetter_8 : decode cX22_isBetter 8 = .ok (.if_icmp .ge 7, 3) := dk_162 0 7 (dk_at dksX22_isBetter_0 8 rfl rfl)
theorem dX22_isBetter_11 : decode cX22_isBetter 11 = .ok (.iconst 1, 1) := dk_4 (dk_at dksX22_isBetter_0 11 rfl rfl)
theorem dX22_isBetter_12 : decode cX22_isBetter 12 = .ok (.goto 4, 3) := dk_167 0 4 (dk_at dksX22_isBetter_0 12 rfl rfl)
theorem dX22_isBetter_15 : decode cX22_isBetter 15 = .ok (.iconst 0, 1) := dk_3 (dk_at dksX22_isBetter_0 15 rfl rfl)
theorem dX22_isBetter_16 : decode cX22_isBetter 16 = .ok (.ireturn, 1) := dk_172 (dk_at dksX22_isBetter_0 16 rfl rfl)
abbrev cX22_init : ByteArray := prog_10_method_1_code
def yX22_init : MethodName := ⟨RX22, "<init>", "(LFiveTouch;)V"⟩
def dkwX22_init_1 : List UInt8 := [100, 182, 0, 31, 177]
abbrev dktX22_init_1 : List UInt8 := dkwX22_init_1 ++ []
def dkwX22_init_0 : List UInt8 := [42, 43, 181, 0, 3, 42, 43, 183, 0, 9, 42, 4, 43, 180, 0, 15, 180, 0, 19, 182, 0, 25, 120, 4]
abbrev dktX22_init_0 : List UInt8 := dkwX22_init_0 ++ dktX22_init_1
theorem dksX22_init_0 : cX22_init.data.toList.drop 0 = dktX22_init_0 := by decide +kernel
theorem dksX22_init_1 : cX22_init.data.toList.drop 24 = dktX22_init_1 := dk_seg dksX22_init_0 24 rfl rfl
theorem dX22_init_0 : decode cX22_init 0 = .ok (.aload_n 0, 1) := dk_42 (dk_at dksX22_init_0 0 rfl rfl)
theorem dX22_init_1 : decode cX22_init 1 = .ok (.aload_n 1, 1) := dk_43 (dk_at dksX22_init_0 1 rfl rfl)
theorem dX22_init_2 : decode cX22_init 2 = .ok (.putfield 3, 3) := dk_181 0 3 (dk_at dksX22_init_0 2 rfl rfl)
theorem dX22_init_5 : decode cX22_init 5 = .ok (.aload_n 0, 1) := dk_42 (dk_at dksX22_init_0 5 rfl rfl)
theorem dX22_init_6 : decode cX22_init 6 = .ok (.aload_n 1, 1) := dk_43 (dk_at dksX22_init_0 6 rfl rfl)
theorem dX22_init_7 : decode cX22_init 7 = .ok (.invokespecial 9, 3) := dk_183 0 9 (dk_at dksX22_init_0 7 rfl rfl)
theorem dX22_init_10 : decode cX22_init 10 = .ok (.aload_n 0, 1) := dk_42 (dk_at dksX22_init_0 10 rfl rfl)
theorem dX22_init_11 : decode cX22_init 11 = .ok (.iconst 1, 1) := dk_4 (dk_at dksX22_init_0 11 rfl rfl)
theorem dX22_init_12 : decode cX22_init 12 = .ok (.aload_n 1, 1) := dk_43 (dk_at dksX22_init_0 12 rfl rfl)
theorem dX22_init_13 : decode cX22_init 13 = .ok (.getfield 15, 3) := dk_180 0 15 (dk_at dksX22_init_0 13 rfl rfl)
theorem dX22_init_16 : decode cX22_init 16 = .ok (.getfield 19, 3) := dk_180 0 19 (dk_at dksX22_init_0 16 rfl rfl)
theorem dX22_init_19 : decode cX22_init 19 = .ok (.invokevirtual 25, 3) := dk_182 0 25 (dk_at dksX22_init_0 19 rfl rfl)
theorem dX22_init_22 : decode cX22_init 22 = .ok (.ishl, 1) := dk_120 (dk_at dksX22_init_0 22 rfl rfl)
theorem dX22_init_23 : decode cX22_init 23 = .ok (.iconst 1, 1) := dk_4 (dk_at dksX22_init_0 23 rfl rfl)
theorem dX22_init_24 : decode cX22_init 24 = .ok (.isub, 1) := dk_100 (dk_at dksX22_init_1 0 rfl rfl)
theorem dX22_init_25 : decode cX22_init 25 = .ok (.invokevirtual 31, 3) := dk_182 0 31 (dk_at dksX22_init_1 1 rfl rfl)
theorem dX22_init_28 : decode cX22_init 28 = .ok (.return_, 1) := dk_177 (dk_at dksX22_init_1 4 rfl rfl)
theorem q126 : (Jvm.Cond.initialized "FiveTouch$Mending") ∈ lw_all := lw_g (lw_at lw_m1 41 rfl) rfl
theorem q172 : (Jvm.Cond.fieldLinkNest "FiveTouch$Mending" (19 : Nat) "FiveTouch$Yard" "spares" "Ljava/util/ArrayList;" "FiveTouch") ∈ lw_tbl := lw_at lw_m1 87 rfl
theorem q181 : (Jvm.Cond.fieldLinkNest "FiveTouch$Mending" (39 : Nat) "FiveTouch$Yard" "there" "I" "FiveTouch") ∈ lw_tbl := lw_at lw_m1 96 rfl
theorem q267 : (Jvm.Cond.fieldLinkNest "FiveTouch$Mending" (15 : Nat) "FiveTouch" "yard" "LFiveTouch$Yard;" "FiveTouch") ∈ lw_tbl := lw_at lw_m1 182 rfl
theorem q471 : (Jvm.Cond.selects "FiveTouch$Mending" ({ cls := "java/lang/Object", name := "getClass", desc := "()Ljava/lang/Class;" } : Jvm.MethodName) ({ cls := "java/lang/Object", name := "getClass", desc := "()Ljava/lang/Class;" } : Jvm.MethodName)) ∈ lw_all := lw_g (lw_at lw_m2 146 rfl) rfl
theorem q1154 : (Jvm.Cond.selects "FiveTouch$Mending" ({ cls := "FiveTouch$Search", name := "counts", desc := "(I)Z" } : Jvm.MethodName) ({ cls := "FiveTouch$Mending", name := "counts", desc := "(I)Z" } : Jvm.MethodName)) ∈ lw_all := lw_g (lw_at lw_m5 109 rfl) rfl
theorem q1155 : (Jvm.Cond.instanceMethod ({ cls := "FiveTouch$Mending", name := "counts", desc := "(I)Z" } : Jvm.MethodName)) ∈ lw_all := lw_g (lw_at lw_m5 110 rfl) rfl
theorem q1156 : (Jvm.Cond.code ({ cls := "FiveTouch$Mending", name := "counts", desc := "(I)Z" } : Jvm.MethodName) prog_10_method_2_code (2 : Nat) (Option.some Jvm.ClassFile.FieldType.boolean)) ∈ lw_all := lw_g (lw_at lw_m5 111 rfl) rfl
theorem q1157 : (Jvm.Cond.methodLink "FiveTouch$Mending" (43 : Nat) ({ cls := "FiveTouch$Scene", name := "isLawful", desc := "(I)Z" } : Jvm.MethodName)) ∈ lw_all := lw_g (lw_at lw_m5 112 rfl) rfl
theorem q1175 : (Jvm.Cond.selects "FiveTouch$Mending" ({ cls := "FiveTouch$Search", name := "isBetter", desc := "(II)Z" } : Jvm.MethodName) ({ cls := "FiveTouch$Mending", name := "isBetter", desc := "(II)Z" } : Jvm.MethodName)) ∈ lw_all := lw_g (lw_at lw_m5 130 rfl) rfl
theorem q1176 : (Jvm.Cond.instanceMethod ({ cls := "FiveTouch$Mending", name := "isBetter", desc := "(II)Z" } : Jvm.MethodName)) ∈ lw_all := lw_g (lw_at lw_m5 131 rfl) rfl
theorem q1177 : (Jvm.Cond.code ({ cls := "FiveTouch$Mending", name := "isBetter", desc := "(II)Z" } : Jvm.MethodName) prog_10_method_3_code (3 : Nat) (Option.some Jvm.ClassFile.FieldType.boolean)) ∈ lw_all := lw_g (lw_at lw_m5 132 rfl) rfl
theorem q1178 : (Jvm.Cond.methodLinkNest "FiveTouch$Mending" (49 : Nat) ({ cls := "FiveTouch", name := "size", desc := "(I)I" } : Jvm.MethodName) "FiveTouch") ∈ lw_tbl := lw_at lw_m5 133 rfl
theorem q1191 : (Jvm.Cond.fieldLink "FiveTouch$Mending" (35 : Nat) "FiveTouch$Mending" "made" "LFiveTouch$Scene;") ∈ lw_all := lw_g (lw_at lw_m5 146 rfl) rfl
theorem q1192 : (Jvm.Cond.sameField "FiveTouch$Mending" "FiveTouch$Search" "made" "LFiveTouch$Scene;") ∈ lw_all := lw_g (lw_at lw_m5 147 rfl) rfl
theorem q1276 : (Jvm.Cond.instantiable "FiveTouch$Mending" (5 : Nat)) ∈ lw_all := lw_g (lw_at lw_m5 231 rfl) rfl
theorem q1278 : (Jvm.Cond.instanceMethod ({ cls := "FiveTouch$Mending", name := "<init>", desc := "(LFiveTouch;)V" } : Jvm.MethodName)) ∈ lw_all := lw_g (lw_at lw_m5 233 rfl) rfl
theorem q1279 : (Jvm.Cond.code ({ cls := "FiveTouch$Mending", name := "<init>", desc := "(LFiveTouch;)V" } : Jvm.MethodName) prog_10_method_1_code (2 : Nat) (Option.none : Option Jvm.ClassFile.FieldType)) ∈ lw_all := lw_g (lw_at lw_m5 234 rfl) rfl
theorem q1280 : (Jvm.Cond.methodLinkNest "FiveTouch$Mending" (9 : Nat) ({ cls := "FiveTouch$Search", name := "<init>", desc := "(LFiveTouch;)V" } : Jvm.MethodName) "FiveTouch") ∈ lw_tbl := lw_at lw_m5 235 rfl
theorem q1281 : (Jvm.Cond.methodLink "FiveTouch$Mending" (25 : Nat) ({ cls := "java/util/ArrayList", name := "size", desc := "()I" } : Jvm.MethodName)) ∈ lw_all := lw_g (lw_at lw_m5 236 rfl) rfl
theorem q1282 : (Jvm.Cond.methodLink "FiveTouch$Mending" (31 : Nat) ({ cls := "FiveTouch$Mending", name := "go", desc := "(I)V" } : Jvm.MethodName)) ∈ lw_all := lw_g (lw_at lw_m5 237 rfl) rfl
theorem q1283 : (Jvm.Cond.sameMethod "FiveTouch$Mending" "FiveTouch$Search" "go" "(I)V") ∈ lw_all := lw_g (lw_at lw_m5 238 rfl) rfl
theorem q1284 : (Jvm.Cond.selects "FiveTouch$Mending" ({ cls := "FiveTouch$Mending", name := "go", desc := "(I)V" } : Jvm.MethodName) ({ cls := "FiveTouch$Search", name := "go", desc := "(I)V" } : Jvm.MethodName)) ∈ lw_all := lw_g (lw_at lw_m5 239 rfl) rfl
theorem q1285 : (Jvm.Cond.fieldLink "FiveTouch$Mending" (3 : Nat) "FiveTouch$Mending" "this$0" "LFiveTouch;") ∈ lw_all := lw_g (lw_at lw_m6 0 rfl) rfl
theorem q1286 : (Jvm.Cond.laysFinal "FiveTouch$Mending" "FiveTouch$Mending" "this$0" "LFiveTouch;") ∈ lw_all := lw_g (lw_at lw_m6 1 rfl) rfl
theorem q1287 : (Jvm.Cond.soleField "FiveTouch$Mending" "this$0") ∈ lw_all := lw_g (lw_at lw_m6 2 rfl) rfl
theorem q1288 : (Jvm.Cond.laysFinal "FiveTouch$Mending" "FiveTouch$Search" "made" "LFiveTouch$Scene;") ∈ lw_all := lw_g (lw_at lw_m6 3 rfl) rfl
theorem q1289 : (Jvm.Cond.lays "FiveTouch$Mending" "FiveTouch$Search" "best" "I") ∈ lw_all := lw_g (lw_at lw_m6 4 rfl) rfl
theorem q1290 : (Jvm.Cond.lays "FiveTouch$Mending" "FiveTouch$Search" "many" "I") ∈ lw_all := lw_g (lw_at lw_m6 5 rfl) rfl
theorem q1291 : (Jvm.Cond.laysFinal "FiveTouch$Mending" "FiveTouch$Search" "this$0" "LFiveTouch;") ∈ lw_all := lw_g (lw_at lw_m6 6 rfl) rfl
theorem q1292 : (Jvm.Cond.superclass "FiveTouch$Mending" "FiveTouch$Search") ∈ lw_all := lw_g (lw_at lw_m6 7 rfl) rfl
theorem q1880 : (Jvm.Cond.castable "FiveTouch$Mending" "java/lang/Object") ∈ lw_tbl := lw_at lw_m8 115 rfl
theorem in_X22 : ∀ w ∈ wsX220, w ∈ lw_all := lw_in wsX220 [1288, 1289, 1290, 1291, 1286] (by decide +kernel) (by decide +kernel)
/-! FiveTouch$Draws -/
set_option maxRecDepth 100000
def RX23 : String := "FiveTouch$Draws"
def TX23 : u_T := fun k => match k with
  | _ => ("FiveTouch$Draws", "state", "J", false)
def tyX23 : Nat → FieldType := fun k => match k with
  | _ => .long
abbrev wsX230 : List Cond := u_ws RX23 TX23 1
theorem nmX23 : ∀ a, a < 1 → ∀ b, b < 1 → a ≠ b → (TX23 a).2.1 ≠ (TX23 b).2.1 := by decide +kernel
theorem tyX23_ok : ∀ k, k < 1 → parseFieldDescriptor (TX23 k).2.2.1 = some (tyX23 k) := by decide +kernel
abbrev cX23_init : ByteArray := prog_7_method_1_code
def yX23_init : MethodName := ⟨RX23, "<init>", "(I)V"⟩
def dkwX23_init_0 : List UInt8 := [42, 183, 0, 1, 42, 27, 133, 181, 0, 7, 177]
abbrev dktX23_init_0 : List UInt8 := dkwX23_init_0 ++ []
theorem dksX23_init_0 : cX23_init.data.toList.drop 0 = dktX23_init_0 := by decide +kernel
theorem dX23_init_0 : decode cX23_init 0 = .ok (.aload_n 0, 1) := dk_42 (dk_at dksX23_init_0 0 rfl rfl)
theorem dX23_init_1 : decode cX23_init 1 = .ok (.invokespecial 1, 3) := dk_183 0 1 (dk_at dksX23_init_0 1 rfl rfl)
theorem dX23_init_4 : decode cX23_init 4 = .ok (.aload_n 0, 1) := dk_42 (dk_at dksX23_init_0 4 rfl rfl)
theorem dX23_init_5 : decode cX23_init 5 = .ok (.iload_n 1, 1) := dk_27 (dk_at dksX23_init_0 5 rfl rfl)
theorem dX23_init_6 : decode cX23_init 6 = .ok (.i2l, 1) := dk_133 (dk_at dksX23_init_0 6 rfl rfl)
theorem dX23_init_7 : decode cX23_init 7 = .ok (.putfield 7, 3) := dk_181 0 7 (dk_at dksX23_init_0 7 rfl rfl)
theorem dX23_init_10 : decode cX23_init 10 = .ok (.return_, 1) := dk_177 (dk_at dksX23_init_0 10 rfl rfl)
abbrev cX23_of : ByteArray := prog_7_method_2_code
def yX23_of : MethodName := ⟨RX23, "of", "(I)I"⟩
def dkwX23_of_1 : List UInt8 := [27, 133, 113, 136, 172]
abbrev dktX23_of_1 : List UInt8 := dkwX23_of_1 ++ []
def dkwX23_of_0 : List UInt8 := [42, 42, 180, 0, 7, 20, 0, 13, 105, 20, 0, 15, 97, 20, 0, 17, 113, 181, 0, 7, 42, 180, 0, 7]
abbrev dktX23_of_0 : List UInt8 := dkwX23_of_0 ++ dktX23_of_1
theorem dksX23_of_0 : cX23_of.data.toList.drop 0 = dktX23_of_0 := by decide +kernel
theorem dksX23_of_1 : cX23_of.data.toList.drop 24 = dktX23_of_1 := dk_seg dksX23_of_0 24 rfl rfl
theorem dX23_of_0 : decode cX23_of 0 = .ok (.aload_n 0, 1) := dk_42 (dk_at dksX23_of_0 0 rfl rfl)
theorem dX23_of_1 : decode cX23_of 1 = .ok (.aload_n 0, 1) := dk_42 (dk_at dksX23_of_0 1 rfl rfl)
theorem dX23_of_2 : decode cX23_of 2 = .ok (.getfield 7, 3) := dk_180 0 7 (dk_at dksX23_of_0 2 rfl rfl)
theorem dX23_of_5 : decode cX23_of 5 = .ok (.ldc2_w 13, 3) := dk_20 0 13 (dk_at dksX23_of_0 5 rfl rfl)
theorem dX23_of_8 : decode cX23_of 8 = .ok (.lmul, 1) := dk_105 (dk_at dksX23_of_0 8 rfl rfl)
theorem dX23_of_9 : decode cX23_of 9 = .ok (.ldc2_w 15, 3) := dk_20 0 15 (dk_at dksX23_of_0 9 rfl rfl)
theorem dX23_of_12 : decode cX23_of 12 = .ok (.ladd, 1) := dk_97 (dk_at dksX23_of_0 12 rfl rfl)
theorem dX23_of_13 : decode cX23_of 13 = .ok (.ldc2_w 17, 3) := dk_20 0 17 (dk_at dksX23_of_0 13 rfl rfl)
theorem dX23_of_16 : decode cX23_of 16 = .ok (.lrem, 1) := dk_113 (dk_at dksX23_of_0 16 rfl rfl)
theorem dX23_of_17 : decode cX23_of 17 = .ok (.putfield 7, 3) := dk_181 0 7 (dk_at dksX23_of_0 17 rfl rfl)
theorem dX23_of_20 : decode cX23_of 20 = .ok (.aload_n 0, 1) := dk_42 (dk_at dksX23_of_0 20 rfl rfl)
theorem dX23_of_21 : decode cX23_of 21 = .ok (.getfield 7, 3) := dk_180 0 7 (dk_at dksX23_of_0 21 rfl rfl)
theorem dX23_of_24 : decode cX23_of 24 = .ok (.iload_n 1, 1) := dk_27 (dk_at dksX23_of_1 0 rfl rfl)
theorem dX23_of_25 : decode cX23_of 25 = .ok (.i2l, 1) := dk_133 (dk_at dksX23_of_1 1 rfl rfl)
theorem dX23_of_26 : decode cX23_of 26 = .ok (.lrem, 1) := dk_113 (dk_at dksX23_of_1 2 rfl rfl)
theorem dX23_of_27 : decode cX23_of 27 = .ok (.l2i, 1) := dk_136 (dk_at dksX23_of_1 3 rfl rfl)
theorem dX23_of_28 : decode cX23_of 28 = .ok (.ireturn, 1) := dk_172 (dk_at dksX23_of_1 4 rfl rfl)
theorem q127 : (Jvm.Cond.initialized "FiveTouch$Draws") ∈ lw_all := lw_g (lw_at lw_m1 42 rfl) rfl
theorem q468 : (Jvm.Cond.selects "FiveTouch$Draws" ({ cls := "java/lang/Object", name := "getClass", desc := "()Ljava/lang/Class;" } : Jvm.MethodName) ({ cls := "java/lang/Object", name := "getClass", desc := "()Ljava/lang/Class;" } : Jvm.MethodName)) ∈ lw_all := lw_g (lw_at lw_m2 143 rfl) rfl
theorem q1312 : (Jvm.Cond.instantiable "FiveTouch$Draws" (1 : Nat)) ∈ lw_all := lw_g (lw_at lw_m6 27 rfl) rfl
theorem q1314 : (Jvm.Cond.instanceMethod ({ cls := "FiveTouch$Draws", name := "<init>", desc := "(I)V" } : Jvm.MethodName)) ∈ lw_all := lw_g (lw_at lw_m6 29 rfl) rfl
theorem q1315 : (Jvm.Cond.code ({ cls := "FiveTouch$Draws", name := "<init>", desc := "(I)V" } : Jvm.MethodName) prog_7_method_1_code (2 : Nat) (Option.none : Option Jvm.ClassFile.FieldType)) ∈ lw_all := lw_g (lw_at lw_m6 30 rfl) rfl
theorem q1316 : (Jvm.Cond.methodLink "FiveTouch$Draws" (1 : Nat) ({ cls := "java/lang/Object", name := "<init>", desc := "()V" } : Jvm.MethodName)) ∈ lw_all := lw_g (lw_at lw_m6 31 rfl) rfl
theorem q1317 : (Jvm.Cond.fieldLink "FiveTouch$Draws" (7 : Nat) "FiveTouch$Draws" "state" "J") ∈ lw_all := lw_g (lw_at lw_m6 32 rfl) rfl
theorem q1318 : (Jvm.Cond.lays "FiveTouch$Draws" "FiveTouch$Draws" "state" "J") ∈ lw_all := lw_g (lw_at lw_m6 33 rfl) rfl
theorem q1319 : (Jvm.Cond.soleField "FiveTouch$Draws" "state") ∈ lw_all := lw_g (lw_at lw_m6 34 rfl) rfl
theorem q1320 : (Jvm.Cond.superclass "FiveTouch$Draws" "java/lang/Object") ∈ lw_all := lw_g (lw_at lw_m6 35 rfl) rfl
theorem q1322 : (Jvm.Cond.instanceMethod ({ cls := "FiveTouch$Draws", name := "of", desc := "(I)I" } : Jvm.MethodName)) ∈ lw_all := lw_g (lw_at lw_m6 37 rfl) rfl
theorem q1323 : (Jvm.Cond.selects "FiveTouch$Draws" ({ cls := "FiveTouch$Draws", name := "of", desc := "(I)I" } : Jvm.MethodName) ({ cls := "FiveTouch$Draws", name := "of", desc := "(I)I" } : Jvm.MethodName)) ∈ lw_all := lw_g (lw_at lw_m6 38 rfl) rfl
theorem q1324 : (Jvm.Cond.code ({ cls := "FiveTouch$Draws", name := "of", desc := "(I)I" } : Jvm.MethodName) prog_7_method_2_code (2 : Nat) (Option.some Jvm.ClassFile.FieldType.int)) ∈ lw_all := lw_g (lw_at lw_m6 39 rfl) rfl
theorem q1325 : (Jvm.Cond.constantLong "FiveTouch$Draws" (13 : Nat) (1103 : Int64)) ∈ lw_all := lw_g (lw_at lw_m6 40 rfl) rfl
theorem q1326 : (Jvm.Cond.constantLong "FiveTouch$Draws" (15 : Nat) (12345 : Int64)) ∈ lw_all := lw_g (lw_at lw_m6 41 rfl) rfl
theorem q1327 : (Jvm.Cond.constantLong "FiveTouch$Draws" (17 : Nat) (1000003 : Int64)) ∈ lw_all := lw_g (lw_at lw_m6 42 rfl) rfl
theorem q1881 : (Jvm.Cond.castable "FiveTouch$Draws" "java/lang/Object") ∈ lw_tbl := lw_at lw_m8 116 rfl
theorem in_X23 : ∀ w ∈ wsX230, w ∈ lw_all := lw_in wsX230 [1318] (by decide +kernel) (by decide +kernel)
