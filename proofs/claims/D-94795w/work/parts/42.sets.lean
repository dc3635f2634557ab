/-! numbers and sets of items as bits, for the plain laws -/
theorem nI_mul (a b : Nat) : nI a * nI b = nI (a * b) := (Int32.ofNat_mul a b).symm
theorem nI_sub {a b : Nat} (h : b ≤ a) : nI a - nI b = nI (a - b) := by
  have : nI a = nI (a - b) + nI b := by rw [nI_add, Nat.sub_add_cancel h]
  rw [this, Int32.add_sub_cancel]
theorem nI_div {a b : Nat} (ha : a < 2 ^ 31) (hb : b < 2 ^ 31) : nI a / nI b = nI (a / b) := by
  apply Int32.toInt_inj.mp
  have h1 : a / b < 2 ^ 31 := Nat.lt_of_le_of_lt (Nat.div_le_self a b) ha
  rw [Int32.toInt_div_of_ne_left, nI_toInt ha, nI_toInt hb, nI_toInt h1]
  · exact (Int.ofNat_tdiv a b).symm
  · intro h
    have := congrArg Int32.toInt h
    rw [nI_toInt ha] at this
    have e : Int32.minValue.toInt = -2 ^ 31 := by decide
    rw [e] at this
    omega
theorem nI_rem {a b : Nat} (ha : a < 2 ^ 31) (hb : b < 2 ^ 31) : nI a - nI a / nI b * nI b = nI (a % b) := by
  rw [nI_div ha hb, nI_mul, nI_sub (Nat.div_mul_le_self a b)]
  congr 1
  have := Nat.div_add_mod a b
  rw [Nat.mul_comm] at this
  omega
theorem nI_ins {i n : Nat} (h : i < n) (hn : n < 2 ^ 31) : am_ins (nI i) n = true := by
  unfold am_ins
  have h1 : ¬ nI i < 0 := nI_pos (by omega)
  have h2 : ¬ n ≤ (nI i).toNatClampNeg := by rw [nI_clamp (by omega)]; omega
  simp [h1, h2]
theorem nI_m1 {a : Nat} (h : a < 2 ^ 31) : ¬ nI a = -1 := by
  intro e
  have := congrArg Int32.toInt e
  rw [nI_toInt h] at this
  have e1 : (-1 : Int32).toInt = -1 := by decide
  omega
theorem nI_neg {x : Int32} : (∃ k, k < 2 ^ 31 ∧ x = nI k) ∨ x < 0 := by
  by_cases h : x < 0
  · exact Or.inr h
  · exact Or.inl (nI_of h)
theorem nI_shr {a k : Nat} (ha : a < 2 ^ 31) (hk : k < 32) : nI a >>> (nI k &&& 31) = nI (a >>> k) := by
  apply b_ext
  intro i hi
  rw [b_sshr k hk _ hi]
  have h1 : ∀ m j, j < 32 → m < 2 ^ 31 → bt (nI m) j = m.testBit j := by
    intro m j hj hm
    show (BitVec.ofNat 32 m).getLsbD j = _
    rw [BitVec.getLsbD_ofNat]
    simp [hj]
  have h2 : a >>> k < 2 ^ 31 := by
    rw [Nat.shiftRight_eq_div_pow]
    exact Nat.lt_of_le_of_lt (Nat.div_le_self _ _) ha
  rw [h1 (a >>> k) i hi h2, Nat.testBit_shiftRight]
  split
  · rename_i h
    rw [h1 a (k + i) h ha]
  · rename_i h
    rw [h1 a 31 (by decide) ha, Nat.testBit_lt_two_pow ha]
    exact (Nat.testBit_lt_two_pow (Nat.lt_of_lt_of_le ha (Nat.pow_le_pow_right (by decide) (by omega)))).symm
theorem nI_shl : ∀ k, k < 31 → nI 1 <<< (nI k &&& 31) = nI (2 ^ k) := by decide +kernel
/-- without -/
def sd (a b : Nat) : Nat := a ^^^ (a &&& b)
theorem sd_bit (a b i : Nat) : (sd a b).testBit i = (a.testBit i && !b.testBit i) := by
  unfold sd
  rw [Nat.testBit_xor, Nat.testBit_and]
  cases a.testBit i <;> cases b.testBit i <;> rfl
theorem sd_lt {a b n : Nat} (h : a < 2 ^ n) : sd a b < 2 ^ n := Nat.xor_lt_two_pow h (Nat.and_lt_two_pow _ (by
  rcases Nat.lt_or_ge b (2 ^ n) with hb | hb
  · exact hb
  · exact absurd h (by omega))) 
theorem nI_bt {m j : Nat} (hj : j < 32) : bt (nI m) j = m.testBit j := by
  show (BitVec.ofNat 32 m).getLsbD j = _
  rw [BitVec.getLsbD_ofNat]
  simp [hj]
theorem nI_sd (a b : Nat) : nI a &&& (nI b ^^^ -1) = nI (sd a b) := by
  apply b_ext
  intro i hi
  rw [b_and, b_xor, b_m1 i hi, nI_bt hi, nI_bt hi, nI_bt hi, sd_bit]
  cases a.testBit i <;> cases b.testBit i <;> rfl
/-- has -/
theorem nI_has {a k : Nat} (ha : a < 2 ^ 31) (hk : k < 32) : (nI a >>> (nI k &&& 31)) &&& 1 = if a.testBit k = true then 1 else 0 := by
  rw [nI_shr ha hk]
  have e : (1 : Int32) = nI 1 := rfl
  rw [e, fa_and, Nat.and_one_is_mod]
  have h : (a >>> k) % 2 = if a.testBit k = true then 1 else 0 := by
    rw [Nat.testBit_eq_decide_div_mod_eq, Nat.shiftRight_eq_div_pow]
    have := Nat.mod_two_eq_zero_or_one (a / 2 ^ k)
    rcases this with h | h <;> simp [h]
  rw [h]
  split <;> rfl
/-- a truth value -/
def bI (b : Bool) : Int32 := if b then 1 else 0
theorem bI_0 {b : Bool} : bI b = 0 ↔ b = false := by cases b <;> decide
theorem bI_fit {b : Bool} : am_fit 1 (.int (bI b)) = true := by cases b <;> decide
theorem bI_nar {b : Bool} : am_nar 2 (bI b) = bI b := by cases b <;> decide
theorem ite_one_fit {c : Prop} [Decidable c] : am_fit 1 (.int (if c then 1 else 0)) = true := by split <;> decide
/-- how many of the first n items -/
def pc (a : Nat) : Nat → Nat
  | 0 => 0
  | n + 1 => pc a n + (if a.testBit n = true then 1 else 0)
theorem pc_le (a : Nat) : ∀ n, pc a n ≤ n
  | 0 => Nat.le_refl _
  | n + 1 => by
    have := pc_le a n
    unfold pc
    split <;> omega
theorem pc_cong {a b : Nat} : ∀ n, (∀ i, i < n → a.testBit i = b.testBit i) → pc a n = pc b n
  | 0, _ => rfl
  | n + 1, h => by
    unfold pc
    rw [pc_cong n (fun i hi => h i (by omega)), h n (by omega)]
theorem pc_zero (n : Nat) : pc 0 n = 0 := by
  induction n with
  | zero => rfl
  | succ n ih => unfold pc; rw [ih]; simp
theorem bit_pow (k i : Nat) : (2 ^ k).testBit i = decide (k = i) := Nat.testBit_two_pow
theorem or_lt {a b n : Nat} (ha : a < 2 ^ n) (hb : b < 2 ^ n) : a ||| b < 2 ^ n := Nat.or_lt_two_pow ha hb
theorem sd_self (a : Nat) : sd a 0 = a := by unfold sd; simp
theorem lt_of_bits {a b : Nat} (h : ∀ i, a.testBit i = true → b.testBit i = true) (hne : a ≠ b) : a < b := by
  have hle : a &&& b = a := by
    apply Nat.eq_of_testBit_eq
    intro i
    rw [Nat.testBit_and]
    cases ha : a.testBit i
    · rfl
    · rw [h i ha]; rfl
  have : a ≤ b := hle ▸ Nat.and_le_right
  omega
theorem sd_lt_self {a b : Nat} (h : a &&& b ≠ 0) : sd a b < a := by
  apply lt_of_bits
  · intro i hi
    rw [sd_bit] at hi
    cases ha : a.testBit i
    · rw [ha] at hi; cases hi
    · rfl
  · intro e
    apply h
    apply Nat.eq_of_testBit_eq
    intro i
    rw [Nat.testBit_and, Nat.zero_testBit]
    have := congrArg (fun z => z.testBit i) e
    simp only [sd_bit] at this
    revert this
    cases a.testBit i <;> cases b.testBit i <;> intro h <;> first | rfl | cases h
theorem ins_not {x : Int32} {n : Nat} (h : ¬ x < 0) (h2 : ¬ n ≤ x.toNatClampNeg) : am_ins x n = true := by
  unfold am_ins
  simp [h, h2]
/-! bitCount -/
theorem cat_and {k a b m m' : Nat} (ha : a < 2 ^ k) (hm : m < 2 ^ k) : (2 ^ k * b + a) &&& (2 ^ k * m' + m) = 2 ^ k * (b &&& m') + (a &&& m) := by
  have hlt : a &&& m < 2 ^ k := Nat.and_lt_two_pow _ hm
  apply Nat.eq_of_testBit_eq
  intro i
  rw [Nat.testBit_and, Nat.testBit_two_pow_mul_add _ ha, Nat.testBit_two_pow_mul_add _ hm, Nat.testBit_two_pow_mul_add _ hlt]
  split <;> rw [Nat.testBit_and]
theorem nI_ushr {a k : Nat} (ha : a < 2 ^ 32) (hk : k < 32) : ((nI a).toUInt32 >>> ((nI k).toUInt32 &&& Int32.toUInt32 31)).toInt32 = nI (a >>> k) := by
  apply b_ext
  intro i hi
  rw [b_ushr k hk]
  rcases Nat.lt_or_ge (k + i) 32 with h | h
  · rw [nI_bt h, nI_bt hi, Nat.testBit_shiftRight]
  · rw [b_big h, nI_bt hi, Nat.testBit_shiftRight]
    exact (Nat.testBit_lt_two_pow (Nat.lt_of_lt_of_le ha (Nat.pow_le_pow_right (by decide) h))).symm
