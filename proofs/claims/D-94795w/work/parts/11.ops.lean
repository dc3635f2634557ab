/-! AM's steps: a function an instruction, and what it does to 'am_G' -/
def am_nx (pc : Nat) (L : am_L) (S : List Value) (M : am_M) : Option am_R := some (.inl (pc, L, S, M))
def am_push (v : Value) (nxt : Nat) : am_S := fun L S M => am_nx nxt L (v :: S) M
def am_ild (k nxt : Nat) : am_S := fun L S M => match L[k]? with
  | some (some (.int x)) => am_nx nxt L (.int x :: S) M
  | _ => none
def am_lld (k nxt : Nat) : am_S := fun L S M => match L[k]? with
  | some (some (.long x)) => am_nx nxt L (.long x :: S) M
  | _ => none
def am_ald (k nxt : Nat) : am_S := fun L S M => match L[k]? with
  | some (some (.ref x)) => am_nx nxt L (.ref x :: S) M
  | some (some .null) => am_nx nxt L (.null :: S) M
  | _ => none
/-- the local ahead isn't a long: a store at k leaves it as it is -/
def am_nl (L : am_L) (k : Nat) : Bool := match k with
  | 0 => true
  | k + 1 => match L[k]? with
    | some (some (.long _)) => false
    | some (some (.double _)) => false
    | _ => true
def am_sti (k nxt : Nat) : am_S := fun L S M => match S with
  | .int x :: S' => if decide (k < L.length) && am_nl L k then am_nx nxt (L.set k (some (.int x))) S' M else none
  | _ => none
def am_sta (k nxt : Nat) : am_S := fun L S M => match S with
  | .ref x :: S' => if decide (k < L.length) && am_nl L k then am_nx nxt (L.set k (some (.ref x))) S' M else none
  | .null :: S' => if decide (k < L.length) && am_nl L k then am_nx nxt (L.set k (some .null)) S' M else none
  | _ => none
def am_lst (k nxt : Nat) : am_S := fun L S M => match S with
  | .long x :: S' => if decide (k + 1 < L.length) && am_nl L k then am_nx nxt ((L.set k (some (.long x))).set (k + 1) none) S' M else none
  | _ => none
def am_inc (k : Nat) (c : Int32) (nxt : Nat) : am_S := fun L S M => match L[k]? with
  | some (some (.int x)) => if am_nl L k then am_nx nxt (L.set k (some (.int (x + c)))) S M else none
  | _ => none
def am_bi (f : Int32 → Int32 → Int32) (nxt : Nat) : am_S := fun L S M => match S with
  | .int y :: .int x :: S' => am_nx nxt L (.int (f x y) :: S') M
  | _ => none
def am_bd (f : Int32 → Int32 → Int32) (nxt : Nat) : am_S := fun L S M => match S with
  | .int y :: .int x :: S' => if y = 0 then none else am_nx nxt L (.int (f x y) :: S') M
  | _ => none
def am_ui (f : Int32 → Int32) (nxt : Nat) : am_S := fun L S M => match S with
  | .int x :: S' => am_nx nxt L (.int (f x) :: S') M
  | _ => none
def am_i2l (nxt : Nat) : am_S := fun L S M => match S with
  | .int x :: S' => am_nx nxt L (.long x.toInt64 :: S') M
  | _ => none
def am_l2i (nxt : Nat) : am_S := fun L S M => match S with
  | .long x :: S' => am_nx nxt L (.int x.toInt32 :: S') M
  | _ => none
def am_bl (f : Int64 → Int64 → Int64) (nxt : Nat) : am_S := fun L S M => match S with
  | .long y :: .long x :: S' => am_nx nxt L (.long (f x y) :: S') M
  | _ => none
def am_bld (f : Int64 → Int64 → Int64) (nxt : Nat) : am_S := fun L S M => match S with
  | .long y :: .long x :: S' => if y = 0 then none else am_nx nxt L (.long (f x y) :: S') M
  | _ => none
def am_lcmp (nxt : Nat) : am_S := fun L S M => match S with
  | .long y :: .long x :: S' => am_nx nxt L (.int (lg_cmp x y) :: S') M
  | _ => none
def am_c1 (v : Value) : Bool := match v with
  | .long _ => false
  | .double _ => false
  | _ => true
def am_dup (nxt : Nat) : am_S := fun L S M => match S with
  | v :: S' => if am_c1 v then am_nx nxt L (v :: v :: S') M else none
  | _ => none
def am_pop (nxt : Nat) : am_S := fun L S M => match S with
  | v :: S' => if am_c1 v then am_nx nxt L S' M else none
  | _ => none
def am_dupx1 (nxt : Nat) : am_S := fun L S M => match S with
  | v :: w :: S' => if am_c1 v && am_c1 w then am_nx nxt L (v :: w :: v :: S') M else none
  | _ => none
def am_dup2 (nxt : Nat) : am_S := fun L S M => match S with
  | v :: w :: S' => if am_c1 v && am_c1 w then am_nx nxt L (v :: w :: v :: w :: S') M else none
  | _ => none
/-- conditions: 0 eq, 1 ne, 2 lt, 3 ge, 4 gt, 5 le -/
def am_cc (c : Nat) (x y : Int32) : Bool := match c with
  | 0 => decide (x = y)
  | 1 => !decide (x = y)
  | 2 => decide (x < y)
  | 3 => decide (y ≤ x)
  | 4 => decide (y < x)
  | _ => decide (x ≤ y)
def am_if (c tgt nxt : Nat) : am_S := fun L S M => match S with
  | .int x :: S' => if am_cc c x 0 then am_nx tgt L S' M else am_nx nxt L S' M
  | _ => none
def am_ic (c tgt nxt : Nat) : am_S := fun L S M => match S with
  | .int y :: .int x :: S' => if am_cc c x y then am_nx tgt L S' M else am_nx nxt L S' M
  | _ => none
def am_go (tgt : Nat) : am_S := fun L S M => am_nx tgt L S M
/-- where null goes, where a reference goes -/
def am_nul (tn tr : Nat) : am_S := fun L S M => match S with
  | .null :: S' => am_nx tn L S' M
  | .ref _ :: S' => am_nx tr L S' M
  | _ => none
/-- foreign places: below 100 -/
def am_ac (te tne : Nat) : am_S := fun L S M => match S with
  | .ref y :: .ref x :: S' => if x = y then am_nx te L S' M else if (decide (100 ≤ x) || decide (100 ≤ y)) && !decide (am_cls M x = 60) && !decide (am_cls M y = 60) then am_nx tne L S' M else none
  | _ => none
def am_tg (lo : Int) (ts : List Nat) (dflt : Nat) (x : Int32) : Nat := if x.toInt < lo then dflt else ts.getD (x.toInt - lo).toNat dflt
def am_tsw (lo : Int) (ts : List Nat) (dflt : Nat) : am_S := fun L S M => match S with
  | .int x :: S' => am_nx (am_tg lo ts dflt x) L S' M
  | _ => none
def am_done (v : Option Value) (M : am_M) : Option am_R := some (.inr (.inl (.inl v, M)))
def am_vret : am_S := fun _ S M => match S with
  | [] => am_done none M
  | _ => none
def am_rt (ty : Nat) : am_S := fun _ S M => match S with
  | [v] => if am_fit ty v then am_done (some v) M else none
  | _ => none
def am_thr : am_S := fun _ S M => match S with
  | .ref q :: _ => if am_cls M q = 8 then some (.inr (.inl (.inr q, M))) else none
  | _ => none
def am_gf (cs : List Nat) (k nxt : Nat) : am_S := fun L S M => match S with
  | .ref a :: S' => match am_fg M cs a k with
    | some v => am_nx nxt L (v :: S') M
    | none => none
  | _ => none
def am_pf (cs : List Nat) (k ty nxt : Nat) : am_S := fun L S M => match S with
  | v :: .ref a :: S' => if am_fit ty v then match am_fp M cs a k v with
    | some M' => am_nx nxt L S' M'
    | none => none
    else none
  | _ => none
def am_gs (k nxt : Nat) : am_S := fun L S M => match M.2.2.1[k]? with
  | some v => am_nx nxt L (v :: S) M
  | none => none
def am_xld (ts : List Nat) (nxt : Nat) : am_S := fun L S M => match S with
  | .int i :: .ref a :: S' => match am_ag M ts a i with
    | some v => am_nx nxt L (v :: S') M
    | none => none
  | _ => none
def am_xst (ts : List Nat) (nxt : Nat) : am_S := fun L S M => match S with
  | .int x :: .int i :: .ref a :: S' => match am_ap M ts a i x with
    | some M' => am_nx nxt L S' M'
    | none => none
  | _ => none
def am_xlst (nxt : Nat) : am_S := fun L S M => match S with
  | .long x :: .int i :: .ref a :: S' => match am_alp M a i x with
    | some M' => am_nx nxt L S' M'
    | none => none
  | _ => none
def am_xast (t : Nat) (cs : List Nat) (nxt : Nat) : am_S := fun L S M => match S with
  | .ref v :: .int i :: .ref a :: S' => match am_arp M t cs a i v with
    | some M' => am_nx nxt L S' M'
    | none => none
  | _ => none
def am_len_ (nxt : Nat) : am_S := fun L S M => match S with
  | .ref a :: S' => match am_al M a with
    | some n => am_nx nxt L (.int n :: S') M
    | none => none
  | _ => none
def am_na (t : Nat) (nxt : Nat) : am_S := fun L S M => match S with
  | .int n :: S' => if decide (n < 0) || decide (65536 < n.toNatClampNeg) then none else am_nx nxt L (.ref (am_len M) :: S') (am_new M n.toNatClampNeg (.inl (t, am_zero t n.toNatClampNeg)))
  | _ => none
def am_no (c : Nat) (fs : List Value) (nxt : Nat) : am_S := fun L S M => am_nx nxt L (.ref (am_len M) :: S) (am_new M fs.length (.inr (c, fs)))
def am_cast (cs : List Nat) (nxt : Nat) : am_S := fun L S M => match S with
  | .ref a :: S' => if cs.contains (am_cls M a) then am_nx nxt L (.ref a :: S') M else none
  | _ => none
/-- what lies under a call's arguments: at most eight words -/
def am_w8 (S : List Value) : Bool := decide ((S.map fun v => v.category).sum ≤ 8)
def am_cq (y : Nat) (args : List Value) (b : Bool) (nxt : Nat) (L : am_L) (rest : List Value) (M : am_M) : Option am_R := if am_w8 rest then some (.inr (.inr (y, args, b, nxt, L, rest, M))) else none
/-- static, with n arguments; a constructor or a method above, with n arguments behind the receiver -/
def am_cS (y n : Nat) (b : Bool) (nxt : Nat) : am_S := fun L S M => if n ≤ S.length then am_cq y (S.take n).reverse b nxt L (S.drop n) M else none
def am_cI (y n : Nat) (nxt : Nat) : am_S := fun L S M => match S.drop n with
  | .ref a :: rest => am_cq y (.ref a :: (S.take n).reverse) false nxt L rest M
  | _ => none
/-- by the receiver's class -/
def am_cV (ys : List (Nat × Nat)) (n : Nat) (b : Bool) (nxt : Nat) : am_S := fun L S M => match S.drop n with
  | .ref a :: rest => match ys.find? (fun p => p.1 == am_cls M a) with
    | some (_, y) => am_cq y (.ref a :: (S.take n).reverse) b nxt L rest M
    | none => none
  | _ => none
/-- Object.<init> -/
def am_oi (nxt : Nat) : am_S := fun L S M => match S with
  | .ref _ :: S' => if am_w8 S' then am_nx nxt L S' M else none
  | _ => none
/-- Math.max, min: of ints, longs -/
def am_mi (f : Int32 → Int32 → Int32) (nxt : Nat) : am_S := fun L S M => match S with
  | .int y :: .int x :: S' => if am_w8 S' then am_nx nxt L (.int (f x y) :: S') M else none
  | _ => none
def am_ml (f : Int64 → Int64 → Int64) (nxt : Nat) : am_S := fun L S M => match S with
  | .long y :: .long x :: S' => if am_w8 S' then am_nx nxt L (.long (f x y) :: S') M else none
  | _ => none
def am_imax (x y : Int32) : Int32 := if x < y then y else x
def am_imin (x y : Int32) : Int32 := if y < x then y else x
def am_lmax (x y : Int64) : Int64 := if y < x then x else y
def am_lmin (x y : Int64) : Int64 := if y < x then y else x
def am_cpyi (t : Nat) (nxt : Nat) : am_S := fun L S M => match S with
  | .int n :: .int dp :: .ref a1 :: .int sp :: .ref a0 :: S' => if am_w8 S' then match am_cpi M t a0 sp a1 dp n with
    | some M' => am_nx nxt L S' M'
    | none => none
    else none
  | _ => none
def am_cpyr (t : Nat) (cs : List Nat) (nxt : Nat) : am_S := fun L S M => match S with
  | .int n :: .int dp :: .ref a1 :: .int sp :: .ref a0 :: S' => if am_w8 S' then match am_cpr M t cs a0 sp a1 dp n with
    | some M' => am_nx nxt L S' M'
    | none => none
    else none
  | _ => none
/-- getClass() of an Object[] -/
def am_gc (nxt : Nat) : am_S := fun L S M => match S with
  | .ref a :: S' => match am_at M a with
    | some (.inl (4, _)) => if am_w8 S' then am_nx nxt L (.ref 2 :: S') M else none
    | _ => none
  | _ => none
/-- baload that throws behind the row's end: the thing thrown is of the class 60 -/
def am_bldx (nxt : Nat) : am_S := fun L S M => match S with
  | .int i :: .ref a :: S' => match am_at M a with
    | some (.inl (1, n, .inl f)) => if am_ins i n then am_nx nxt L (.int (f i.toNatClampNeg) :: S') M
      else if decide (0 ≤ i) && decide (i.toNatClampNeg ≤ n + 4) && decide (n ≤ 400) && am_w8 S' then some (.inr (.inl (.inr (am_len M), (M.1 + 3, M.2.1 + 1010, M.2.2.1, M.2.2.2 ++ [.inr (60, [])])))) else none
    | _ => none
  | _ => none
section AMO
variable {T : Nat → Option am_S} {hs : List (Nat × Nat × Nat × List Nat)} {call : Nat → List Value → am_M → Option am_O} {pc nxt tgt k a n c : Nat} {L L' : am_L} {S rest : List Value} {M M' : am_M} {o : am_O} {v w : Value} {x y i : Int32} {p q : Int64} {b : Bool} {args : List Value}
theorem ao_push (hT : T pc = some (am_push v nxt)) : am_G T hs call pc L S M o ↔ am_G T hs call nxt L (v :: S) M o := am_G_next hT rfl
theorem ao_ild (hT : T pc = some (am_ild k nxt)) (hL : L[k]? = some (some (.int x))) : am_G T hs call pc L S M o ↔ am_G T hs call nxt L (.int x :: S) M o := am_G_next hT (by simp only [am_ild, hL]; rfl)
theorem ao_lld (hT : T pc = some (am_lld k nxt)) (hL : L[k]? = some (some (.long p))) : am_G T hs call pc L S M o ↔ am_G T hs call nxt L (.long p :: S) M o := am_G_next hT (by simp only [am_lld, hL]; rfl)
theorem ao_ald (hT : T pc = some (am_ald k nxt)) (hL : L[k]? = some (some (.ref a))) : am_G T hs call pc L S M o ↔ am_G T hs call nxt L (.ref a :: S) M o := am_G_next hT (by simp only [am_ald, hL]; rfl)
theorem ao_aldN (hT : T pc = some (am_ald k nxt)) (hL : L[k]? = some (some .null)) : am_G T hs call pc L S M o ↔ am_G T hs call nxt L (.null :: S) M o := am_G_next hT (by simp only [am_ald, hL]; rfl)
theorem ao_sti (hT : T pc = some (am_sti k nxt)) (hk : k < L.length) (hL : L.set k (some (.int x)) = L') : am_G T hs call pc L (.int x :: S) M o ↔ am_nl L k = true ∧ am_G T hs call nxt L' S M o := by
  subst hL
  cases h : am_nl L k with
  | true => simpa using am_G_next hT (by simp [am_sti, hk, h]; rfl)
  | false => simpa using am_G_stuck hT (by simp [am_sti, h])
theorem ao_sta (hT : T pc = some (am_sta k nxt)) (hk : k < L.length) (hL : L.set k (some (.ref a)) = L') : am_G T hs call pc L (.ref a :: S) M o ↔ am_nl L k = true ∧ am_G T hs call nxt L' S M o := by
  subst hL
  cases h : am_nl L k with
  | true => simpa using am_G_next hT (by simp [am_sta, hk, h]; rfl)
  | false => simpa using am_G_stuck hT (by simp [am_sta, h])
theorem ao_stn (hT : T pc = some (am_sta k nxt)) (hk : k < L.length) (hL : L.set k (some .null) = L') : am_G T hs call pc L (.null :: S) M o ↔ am_nl L k = true ∧ am_G T hs call nxt L' S M o := by
  subst hL
  cases h : am_nl L k with
  | true => simpa using am_G_next hT (by simp [am_sta, hk, h]; rfl)
  | false => simpa using am_G_stuck hT (by simp [am_sta, h])
theorem ao_lst (hT : T pc = some (am_lst k nxt)) (hk : k + 1 < L.length) (hL : (L.set k (some (.long p))).set (k + 1) none = L') : am_G T hs call pc L (.long p :: S) M o ↔ am_nl L k = true ∧ am_G T hs call nxt L' S M o := by
  subst hL
  cases h : am_nl L k with
  | true => simpa using am_G_next hT (by simp [am_lst, hk, h]; rfl)
  | false => simpa using am_G_stuck hT (by simp [am_lst, h])
theorem ao_inc {d : Int32} (hT : T pc = some (am_inc k d nxt)) (hx : L[k]? = some (some (.int x))) (hL : L.set k (some (.int (x + d))) = L') : am_G T hs call pc L S M o ↔ am_nl L k = true ∧ am_G T hs call nxt L' S M o := by
  subst hL
  cases h : am_nl L k with
  | true => simpa using am_G_next hT (by simp [am_inc, hx, h]; rfl)
  | false => simpa using am_G_stuck hT (by simp [am_inc, hx, h])
theorem ao_bi {f : Int32 → Int32 → Int32} (hT : T pc = some (am_bi f nxt)) : am_G T hs call pc L (.int y :: .int x :: S) M o ↔ am_G T hs call nxt L (.int (f x y) :: S) M o := am_G_next hT rfl
theorem ao_bd {f : Int32 → Int32 → Int32} (hT : T pc = some (am_bd f nxt)) : am_G T hs call pc L (.int y :: .int x :: S) M o ↔ ¬ y = 0 ∧ am_G T hs call nxt L (.int (f x y) :: S) M o := by
  by_cases h : y = 0
  · simpa [h] using am_G_stuck hT (by simp [am_bd, h])
  · simpa [h] using am_G_next hT (by simp [am_bd, h]; rfl)
theorem ao_ui {f : Int32 → Int32} (hT : T pc = some (am_ui f nxt)) : am_G T hs call pc L (.int x :: S) M o ↔ am_G T hs call nxt L (.int (f x) :: S) M o := am_G_next hT rfl
theorem ao_i2l (hT : T pc = some (am_i2l nxt)) : am_G T hs call pc L (.int x :: S) M o ↔ am_G T hs call nxt L (.long x.toInt64 :: S) M o := am_G_next hT rfl
theorem ao_l2i (hT : T pc = some (am_l2i nxt)) : am_G T hs call pc L (.long p :: S) M o ↔ am_G T hs call nxt L (.int p.toInt32 :: S) M o := am_G_next hT rfl
theorem ao_bl {f : Int64 → Int64 → Int64} (hT : T pc = some (am_bl f nxt)) : am_G T hs call pc L (.long q :: .long p :: S) M o ↔ am_G T hs call nxt L (.long (f p q) :: S) M o := am_G_next hT rfl
theorem ao_bld {f : Int64 → Int64 → Int64} (hT : T pc = some (am_bld f nxt)) : am_G T hs call pc L (.long q :: .long p :: S) M o ↔ ¬ q = 0 ∧ am_G T hs call nxt L (.long (f p q) :: S) M o := by
  by_cases h : q = 0
  · simpa [h] using am_G_stuck hT (by simp [am_bld, h])
  · simpa [h] using am_G_next hT (by simp [am_bld, h]; rfl)
theorem ao_lcmp (hT : T pc = some (am_lcmp nxt)) : am_G T hs call pc L (.long q :: .long p :: S) M o ↔ am_G T hs call nxt L (.int (lg_cmp p q) :: S) M o := am_G_next hT rfl
theorem ao_dupa (hT : T pc = some (am_dup nxt)) : am_G T hs call pc L (.ref a :: S) M o ↔ am_G T hs call nxt L (.ref a :: .ref a :: S) M o := am_G_next hT rfl
theorem ao_dupi (hT : T pc = some (am_dup nxt)) : am_G T hs call pc L (.int x :: S) M o ↔ am_G T hs call nxt L (.int x :: .int x :: S) M o := am_G_next hT rfl
theorem ao_popa (hT : T pc = some (am_pop nxt)) : am_G T hs call pc L (.ref a :: S) M o ↔ am_G T hs call nxt L S M o := am_G_next hT rfl
theorem ao_popi (hT : T pc = some (am_pop nxt)) : am_G T hs call pc L (.int x :: S) M o ↔ am_G T hs call nxt L S M o := am_G_next hT rfl
theorem ao_dupx1 (hT : T pc = some (am_dupx1 nxt)) : am_G T hs call pc L (.ref a :: .ref n :: S) M o ↔ am_G T hs call nxt L (.ref a :: .ref n :: .ref a :: S) M o := am_G_next hT rfl
theorem ao_dup2 (hT : T pc = some (am_dup2 nxt)) : am_G T hs call pc L (.int i :: .ref a :: S) M o ↔ am_G T hs call nxt L (.int i :: .ref a :: .int i :: .ref a :: S) M o := am_G_next hT rfl
theorem ao_br {C : Prop} (P Q : Prop) (d : Decidable C) (b : Bool) (hb : b = decide C) {A : Prop} (h1 : b = true → (A ↔ P)) (h2 : b = false → (A ↔ Q)) : A ↔ (if C then P else Q) := by
  subst hb
  by_cases h : C
  · rw [if_pos h]; exact h1 (by simpa using h)
  · rw [if_neg h]; exact h2 (by simpa using h)
theorem ao_if_eq (hT : T pc = some (am_if 0 tgt nxt)) : am_G T hs call pc L (.int x :: S) M o ↔ (if x = 0 then am_G T hs call tgt L S M o else am_G T hs call nxt L S M o) :=
  ao_br _ _ _ (am_cc 0 x 0) rfl (fun h => am_G_next hT (by simp only [am_if, h]; rfl)) (fun h => am_G_next hT (by simp only [am_if, h]; rfl))
theorem ao_if_ne (hT : T pc = some (am_if 1 tgt nxt)) : am_G T hs call pc L (.int x :: S) M o ↔ (if x = 0 then am_G T hs call nxt L S M o else am_G T hs call tgt L S M o) :=
  ao_br _ _ _ (!am_cc 1 x 0) (by simp [am_cc]) (fun h => am_G_next hT (by simp only [am_if, show am_cc 1 x 0 = false by simpa using h]; rfl)) (fun h => am_G_next hT (by simp only [am_if, show am_cc 1 x 0 = true by simpa using h]; rfl))
theorem ao_if_lt (hT : T pc = some (am_if 2 tgt nxt)) : am_G T hs call pc L (.int x :: S) M o ↔ (if x < 0 then am_G T hs call tgt L S M o else am_G T hs call nxt L S M o) :=
  ao_br _ _ _ (am_cc 2 x 0) rfl (fun h => am_G_next hT (by simp only [am_if, h]; rfl)) (fun h => am_G_next hT (by simp only [am_if, h]; rfl))
theorem ao_if_ge (hT : T pc = some (am_if 3 tgt nxt)) : am_G T hs call pc L (.int x :: S) M o ↔ (if 0 ≤ x then am_G T hs call tgt L S M o else am_G T hs call nxt L S M o) :=
  ao_br _ _ _ (am_cc 3 x 0) rfl (fun h => am_G_next hT (by simp only [am_if, h]; rfl)) (fun h => am_G_next hT (by simp only [am_if, h]; rfl))
theorem ao_if_gt (hT : T pc = some (am_if 4 tgt nxt)) : am_G T hs call pc L (.int x :: S) M o ↔ (if 0 < x then am_G T hs call tgt L S M o else am_G T hs call nxt L S M o) :=
  ao_br _ _ _ (am_cc 4 x 0) rfl (fun h => am_G_next hT (by simp only [am_if, h]; rfl)) (fun h => am_G_next hT (by simp only [am_if, h]; rfl))
theorem ao_if_le (hT : T pc = some (am_if 5 tgt nxt)) : am_G T hs call pc L (.int x :: S) M o ↔ (if x ≤ 0 then am_G T hs call tgt L S M o else am_G T hs call nxt L S M o) :=
  ao_br _ _ _ (am_cc 5 x 0) rfl (fun h => am_G_next hT (by simp only [am_if, h]; rfl)) (fun h => am_G_next hT (by simp only [am_if, h]; rfl))
theorem ao_ic_eq (hT : T pc = some (am_ic 0 tgt nxt)) : am_G T hs call pc L (.int y :: .int x :: S) M o ↔ (if x = y then am_G T hs call tgt L S M o else am_G T hs call nxt L S M o) :=
  ao_br _ _ _ (am_cc 0 x y) rfl (fun h => am_G_next hT (by simp only [am_ic, h]; rfl)) (fun h => am_G_next hT (by simp only [am_ic, h]; rfl))
theorem ao_ic_ne (hT : T pc = some (am_ic 1 tgt nxt)) : am_G T hs call pc L (.int y :: .int x :: S) M o ↔ (if x = y then am_G T hs call nxt L S M o else am_G T hs call tgt L S M o) :=
  ao_br _ _ _ (!am_cc 1 x y) (by simp [am_cc]) (fun h => am_G_next hT (by simp only [am_ic, show am_cc 1 x y = false by simpa using h]; rfl)) (fun h => am_G_next hT (by simp only [am_ic, show am_cc 1 x y = true by simpa using h]; rfl))
theorem ao_ic_lt (hT : T pc = some (am_ic 2 tgt nxt)) : am_G T hs call pc L (.int y :: .int x :: S) M o ↔ (if x < y then am_G T hs call tgt L S M o else am_G T hs call nxt L S M o) :=
  ao_br _ _ _ (am_cc 2 x y) rfl (fun h => am_G_next hT (by simp only [am_ic, h]; rfl)) (fun h => am_G_next hT (by simp only [am_ic, h]; rfl))
theorem ao_ic_ge (hT : T pc = some (am_ic 3 tgt nxt)) : am_G T hs call pc L (.int y :: .int x :: S) M o ↔ (if y ≤ x then am_G T hs call tgt L S M o else am_G T hs call nxt L S M o) :=
  ao_br _ _ _ (am_cc 3 x y) rfl (fun h => am_G_next hT (by simp only [am_ic, h]; rfl)) (fun h => am_G_next hT (by simp only [am_ic, h]; rfl))
theorem ao_ic_gt (hT : T pc = some (am_ic 4 tgt nxt)) : am_G T hs call pc L (.int y :: .int x :: S) M o ↔ (if y < x then am_G T hs call tgt L S M o else am_G T hs call nxt L S M o) :=
  ao_br _ _ _ (am_cc 4 x y) rfl (fun h => am_G_next hT (by simp only [am_ic, h]; rfl)) (fun h => am_G_next hT (by simp only [am_ic, h]; rfl))
theorem ao_ic_le (hT : T pc = some (am_ic 5 tgt nxt)) : am_G T hs call pc L (.int y :: .int x :: S) M o ↔ (if x ≤ y then am_G T hs call tgt L S M o else am_G T hs call nxt L S M o) :=
  ao_br _ _ _ (am_cc 5 x y) rfl (fun h => am_G_next hT (by simp only [am_ic, h]; rfl)) (fun h => am_G_next hT (by simp only [am_ic, h]; rfl))
theorem ao_go (hT : T pc = some (am_go tgt)) : am_G T hs call pc L S M o ↔ am_G T hs call tgt L S M o := am_G_next hT rfl
theorem ao_nulN {tn tr : Nat} (hT : T pc = some (am_nul tn tr)) : am_G T hs call pc L (.null :: S) M o ↔ am_G T hs call tn L S M o := am_G_next hT rfl
theorem ao_nulR {tn tr : Nat} (hT : T pc = some (am_nul tn tr)) : am_G T hs call pc L (.ref a :: S) M o ↔ am_G T hs call tr L S M o := am_G_next hT rfl
theorem ao_acE {te tne : Nat} (hT : T pc = some (am_ac te tne)) : am_G T hs call pc L (.ref a :: .ref a :: S) M o ↔ am_G T hs call te L S M o := am_G_next hT (by simp [am_ac]; rfl)
theorem ao_acN {te tne b : Nat} (hT : T pc = some (am_ac te tne)) (h : ¬ b = a) (h2 : (decide (100 ≤ b) || decide (100 ≤ a)) = true) (h3 : ¬ am_cls M b = 60) (h4 : ¬ am_cls M a = 60) : am_G T hs call pc L (.ref a :: .ref b :: S) M o ↔ am_G T hs call tne L S M o := am_G_next hT (by simp only [am_ac]; rw [if_neg h, if_pos (by simp only [h2, h3, h4]; rfl)]; rfl)
theorem ao_tsw {lo : Int} {ts : List Nat} {d : Nat} (hT : T pc = some (am_tsw lo ts d)) : am_G T hs call pc L (.int x :: S) M o ↔ am_G T hs call (am_tg lo ts d x) L S M o := am_G_next hT rfl
theorem ao_vret (hT : T pc = some am_vret) : am_G T hs call pc L [] M o ↔ o = (.inl none, M) := am_G_ret hT rfl
theorem ao_iret (hT : T pc = some (am_rt 0)) : am_G T hs call pc L [.int x] M o ↔ o = (.inl (some (.int x)), M) := am_G_ret hT rfl
theorem ao_lret (hT : T pc = some (am_rt 2)) : am_G T hs call pc L [.long p] M o ↔ o = (.inl (some (.long p)), M) := am_G_ret hT rfl
theorem ao_aret (hT : T pc = some (am_rt 3)) : am_G T hs call pc L [.ref a] M o ↔ o = (.inl (some (.ref a)), M) := am_G_ret hT rfl
theorem ao_nret (hT : T pc = some (am_rt 3)) : am_G T hs call pc L [.null] M o ↔ o = (.inl (some .null), M) := am_G_ret hT rfl
theorem ao_rt {ty : Nat} (hT : T pc = some (am_rt ty)) : am_G T hs call pc L [v] M o ↔ am_fit ty v = true ∧ o = (.inl (some v), M) := by
  cases h : am_fit ty v with
  | true => simpa using am_G_ret hT (by simp [am_rt, h]; rfl)
  | false => simpa using am_G_stuck hT (by simp [am_rt, h])
theorem ao_thr (hT : T pc = some am_thr) : am_G T hs call pc L (.ref a :: S) M o ↔ am_cls M a = 8 ∧ am_X T hs call pc L o a M := by
  by_cases h : am_cls M a = 8
  · simpa [h] using am_G_thr hT (by simp only [am_thr, if_pos h])
  · simpa [h] using am_G_stuck hT (by simp only [am_thr, if_neg h])
theorem ao_obn {α : Type} {r : Option α} {K : α → Prop} {P : Prop} (h : r = none → (P ↔ False)) (h2 : ∀ v, r = some v → (P ↔ K v)) : P ↔ am_ob r K := by
  cases hr : r with
  | none => exact h hr
  | some v => exact h2 v hr
theorem ao_gf {cs : List Nat} (hT : T pc = some (am_gf cs k nxt)) : am_G T hs call pc L (.ref a :: S) M o ↔ am_ob (am_fg M cs a k) (fun v => am_G T hs call nxt L (v :: S) M o) :=
  ao_obn (fun h => am_G_stuck hT (by simp only [am_gf, h])) (fun v h => am_G_next hT (by simp only [am_gf, h]; rfl))
theorem ao_pf {cs : List Nat} {ty : Nat} (hT : T pc = some (am_pf cs k ty nxt)) : am_G T hs call pc L (v :: .ref a :: S) M o ↔ am_fit ty v = true ∧ am_ob (am_fp M cs a k v) (fun M' => am_G T hs call nxt L S M' o) := by
  cases h0 : am_fit ty v with
  | true => simpa using ao_obn (fun h => am_G_stuck hT (by simp [am_pf, h0, h])) (fun v h => am_G_next hT (by simp [am_pf, h0, h]; rfl))
  | false => simpa using am_G_stuck hT (by simp [am_pf, h0])
theorem ao_gs (hT : T pc = some (am_gs k nxt)) : am_G T hs call pc L S M o ↔ am_ob (M.2.2.1[k]?) (fun v => am_G T hs call nxt L (v :: S) M o) :=
  ao_obn (fun h => am_G_stuck hT (by simp only [am_gs, h])) (fun v h => am_G_next hT (by simp only [am_gs, h]; rfl))
theorem ao_xld {ts : List Nat} (hT : T pc = some (am_xld ts nxt)) : am_G T hs call pc L (.int i :: .ref a :: S) M o ↔ am_ob (am_ag M ts a i) (fun v => am_G T hs call nxt L (v :: S) M o) :=
  ao_obn (fun h => am_G_stuck hT (by simp only [am_xld, h])) (fun v h => am_G_next hT (by simp only [am_xld, h]; rfl))
theorem ao_xst {ts : List Nat} (hT : T pc = some (am_xst ts nxt)) : am_G T hs call pc L (.int x :: .int i :: .ref a :: S) M o ↔ am_ob (am_ap M ts a i x) (fun M' => am_G T hs call nxt L S M' o) :=
  ao_obn (fun h => am_G_stuck hT (by simp only [am_xst, h])) (fun v h => am_G_next hT (by simp only [am_xst, h]; rfl))
theorem ao_xlst (hT : T pc = some (am_xlst nxt)) : am_G T hs call pc L (.long p :: .int i :: .ref a :: S) M o ↔ am_ob (am_alp M a i p) (fun M' => am_G T hs call nxt L S M' o) :=
  ao_obn (fun h => am_G_stuck hT (by simp only [am_xlst, h])) (fun v h => am_G_next hT (by simp only [am_xlst, h]; rfl))
theorem ao_xast {t b : Nat} {cs : List Nat} (hT : T pc = some (am_xast t cs nxt)) : am_G T hs call pc L (.ref b :: .int i :: .ref a :: S) M o ↔ am_ob (am_arp M t cs a i b) (fun M' => am_G T hs call nxt L S M' o) :=
  ao_obn (fun h => am_G_stuck hT (by simp only [am_xast, h])) (fun v h => am_G_next hT (by simp only [am_xast, h]; rfl))
theorem ao_len (hT : T pc = some (am_len_ nxt)) : am_G T hs call pc L (.ref a :: S) M o ↔ am_ob (am_al M a) (fun n => am_G T hs call nxt L (.int n :: S) M o) :=
  ao_obn (fun h => am_G_stuck hT (by simp only [am_len_, h])) (fun v h => am_G_next hT (by simp only [am_len_, h]; rfl))
theorem ao_na {t : Nat} (hT : T pc = some (am_na t nxt)) : am_G T hs call pc L (.int x :: S) M o ↔ (decide (x < 0) || decide (65536 < x.toNatClampNeg)) = false ∧ am_G T hs call nxt L (.ref (am_len M) :: S) (am_new M x.toNatClampNeg (.inl (t, am_zero t x.toNatClampNeg))) o := by
  cases h : (decide (x < 0) || decide (65536 < x.toNatClampNeg)) with
  | true => simpa using am_G_stuck hT (by simp only [am_na, h]; rfl)
  | false => simpa using am_G_next hT (by simp only [am_na, h]; rfl)
theorem ao_no {fs : List Value} (hT : T pc = some (am_no c fs nxt)) : am_G T hs call pc L S M o ↔ am_G T hs call nxt L (.ref (am_len M) :: S) (am_new M fs.length (.inr (c, fs))) o := am_G_next hT rfl
theorem ao_cast {cs : List Nat} (hT : T pc = some (am_cast cs nxt)) : am_G T hs call pc L (.ref a :: S) M o ↔ cs.contains (am_cls M a) = true ∧ am_G T hs call nxt L (.ref a :: S) M o := by
  cases h : cs.contains (am_cls M a) with
  | true => simpa using am_G_next hT (by simp only [am_cast, h]; rfl)
  | false => simpa using am_G_stuck hT (by simp only [am_cast, h]; rfl)
theorem ao_cS1 {m : Nat} (hT : T pc = some (am_cS m n true nxt)) (hn : n ≤ S.length) (ha : (S.take n).reverse = args) (hr : S.drop n = rest) (h8 : am_w8 rest = true) : am_G T hs call pc L S M o ↔ am_C1 (call m args M) (am_X T hs call pc L o) (fun v M' => am_G T hs call nxt L (v :: rest) M' o) := am_G_call1 hT (by simp only [am_cS, am_cq, if_pos hn, ha, hr, h8]; rfl)
theorem ao_cS0 {m : Nat} (hT : T pc = some (am_cS m n false nxt)) (hn : n ≤ S.length) (ha : (S.take n).reverse = args) (hr : S.drop n = rest) (h8 : am_w8 rest = true) : am_G T hs call pc L S M o ↔ am_C0 (call m args M) (am_X T hs call pc L o) (fun M' => am_G T hs call nxt L rest M' o) := am_G_call0 hT (by simp only [am_cS, am_cq, if_pos hn, ha, hr, h8]; rfl)
theorem ao_cI {m : Nat} (hT : T pc = some (am_cI m n nxt)) (ha : (S.take n).reverse = args) (hr : S.drop n = .ref a :: rest) (h8 : am_w8 rest = true) : am_G T hs call pc L S M o ↔ am_C0 (call m (.ref a :: args) M) (am_X T hs call pc L o) (fun M' => am_G T hs call nxt L rest M' o) := am_G_call0 hT (by simp only [am_cI, am_cq, ha, hr, h8]; rfl)
/-- the method that a receiver's class picks -/
def am_pick (ys : List (Nat × Nat)) (M : am_M) (a : Nat) : Option Nat := (ys.find? (fun p => p.1 == am_cls M a)).map (·.2)
theorem ao_cV1 {ys : List (Nat × Nat)} (hT : T pc = some (am_cV ys n true nxt)) (ha : (S.take n).reverse = args) (hr : S.drop n = .ref a :: rest) (h8 : am_w8 rest = true) : am_G T hs call pc L S M o ↔ am_ob (am_pick ys M a) (fun m => am_C1 (call m (.ref a :: args) M) (am_X T hs call pc L o) (fun v M' => am_G T hs call nxt L (v :: rest) M' o)) := by
  unfold am_pick
  cases h : ys.find? (fun p => p.1 == am_cls M a) with
  | none => exact am_G_stuck hT (by simp only [am_cV, hr, h])
  | some p => exact am_G_call1 hT (by simp only [am_cV, am_cq, ha, hr, h, h8]; rfl)
theorem ao_cV0 {ys : List (Nat × Nat)} (hT : T pc = some (am_cV ys n false nxt)) (ha : (S.take n).reverse = args) (hr : S.drop n = .ref a :: rest) (h8 : am_w8 rest = true) : am_G T hs call pc L S M o ↔ am_ob (am_pick ys M a) (fun m => am_C0 (call m (.ref a :: args) M) (am_X T hs call pc L o) (fun M' => am_G T hs call nxt L rest M' o)) := by
  unfold am_pick
  cases h : ys.find? (fun p => p.1 == am_cls M a) with
  | none => exact am_G_stuck hT (by simp only [am_cV, hr, h])
  | some p => exact am_G_call0 hT (by simp only [am_cV, am_cq, ha, hr, h, h8]; rfl)
theorem ao_oi (hT : T pc = some (am_oi nxt)) (h8 : am_w8 S = true) : am_G T hs call pc L (.ref a :: S) M o ↔ am_G T hs call nxt L S M o := am_G_next hT (by simp only [am_oi, h8]; rfl)
theorem ao_mi {f : Int32 → Int32 → Int32} (hT : T pc = some (am_mi f nxt)) (h8 : am_w8 S = true) : am_G T hs call pc L (.int y :: .int x :: S) M o ↔ am_G T hs call nxt L (.int (f x y) :: S) M o := am_G_next hT (by simp only [am_mi, h8]; rfl)
theorem ao_ml {f : Int64 → Int64 → Int64} (hT : T pc = some (am_ml f nxt)) (h8 : am_w8 S = true) : am_G T hs call pc L (.long q :: .long p :: S) M o ↔ am_G T hs call nxt L (.long (f p q) :: S) M o := am_G_next hT (by simp only [am_ml, h8]; rfl)
theorem ao_cpyi {t a1 : Nat} {sp dp m : Int32} (hT : T pc = some (am_cpyi t nxt)) (h8 : am_w8 S = true) : am_G T hs call pc L (.int m :: .int dp :: .ref a1 :: .int sp :: .ref a :: S) M o ↔ am_ob (am_cpi M t a sp a1 dp m) (fun M' => am_G T hs call nxt L S M' o) :=
  ao_obn (fun h => am_G_stuck hT (by simp [am_cpyi, h8, h])) (fun v h => am_G_next hT (by simp [am_cpyi, h8, h]; rfl))
theorem ao_cpyr {t a1 : Nat} {cs : List Nat} {sp dp m : Int32} (hT : T pc = some (am_cpyr t cs nxt)) (h8 : am_w8 S = true) : am_G T hs call pc L (.int m :: .int dp :: .ref a1 :: .int sp :: .ref a :: S) M o ↔ am_ob (am_cpr M t cs a sp a1 dp m) (fun M' => am_G T hs call nxt L S M' o) :=
  ao_obn (fun h => am_G_stuck hT (by simp [am_cpyr, h8, h])) (fun v h => am_G_next hT (by simp [am_cpyr, h8, h]; rfl))
theorem ao_gc {x : vp_A} (hT : T pc = some (am_gc nxt)) (h : am_at M a = some (.inl (4, x))) (h8 : am_w8 S = true) : am_G T hs call pc L (.ref a :: S) M o ↔ am_G T hs call nxt L (.ref 2 :: S) M o := am_G_next hT (by simp only [am_gc, h, h8]; rfl)
theorem ao_bldx {n : Nat} {f : Nat → Int32} (hT : T pc = some (am_bldx nxt)) (h : am_at M a = some (.inl (1, n, .inl f))) (hi : am_ins i n = true) : am_G T hs call pc L (.int i :: .ref a :: S) M o ↔ am_G T hs call nxt L (.int (f i.toNatClampNeg) :: S) M o := am_G_next hT (by simp only [am_bldx, h, hi]; rfl)
theorem ao_bldxT {n : Nat} {f : Nat → Int32} (hT : T pc = some (am_bldx nxt)) (h : am_at M a = some (.inl (1, n, .inl f))) (hi : am_ins i n = false) (h2 : (decide (0 ≤ i) && decide (i.toNatClampNeg ≤ n + 4) && decide (n ≤ 400) && am_w8 S) = true) : am_G T hs call pc L (.int i :: .ref a :: S) M o ↔ am_X T hs call pc L o (am_len M) (M.1 + 3, M.2.1 + 1010, M.2.2.1, M.2.2.2 ++ [.inr (60, [])]) := am_G_thr hT (by simp only [am_bldx, h, hi, h2]; rfl)
end AMO
