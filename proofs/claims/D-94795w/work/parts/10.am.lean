/-! AM: an abstract machine over abstract memory. An object is an array (kind, contents) or an object (class number, fields); addresses are places in the memory's list. -/
abbrev am_E : Type := (Nat × vp_A) ⊕ (Nat × List Value)
/-- cells made, slots made, statics, objects -/
abbrev am_M : Type := Nat × Nat × List Value × List am_E
abbrev am_L : Type := List (Option Value)
/-- returned (some value or none), or thrown -/
abbrev am_Ret : Type := Option Value ⊕ Nat
abbrev am_O : Type := am_Ret × am_M
/-- a call: method, arguments, whether it answers, next pc, locals, rest of the stack, memory -/
abbrev am_Cq : Type := Nat × List Value × Bool × Nat × am_L × List Value × am_M
abbrev am_R : Type := (Nat × am_L × List Value × am_M) ⊕ (am_O ⊕ am_Cq)
abbrev am_S : Type := am_L → List Value → am_M → Option am_R
def am_at (M : am_M) (a : Nat) : Option am_E := M.2.2.2[a]?
def am_put (M : am_M) (a : Nat) (e : am_E) : am_M := (M.1, M.2.1, M.2.2.1, M.2.2.2.set a e)
def am_len (M : am_M) : Nat := M.2.2.2.length
def am_new (M : am_M) (n : Nat) (e : am_E) : am_M := (M.1 + 1, M.2.1 + n, M.2.2.1, M.2.2.2 ++ [e])
def am_cls (M : am_M) (a : Nat) : Nat := match am_at M a with
  | some (.inr (c, _)) => c
  | _ => 1000
theorem am_at_put_self {M : am_M} {a : Nat} {e e0 : am_E} (h : am_at M a = some e0) : am_at (am_put M a e) a = some e := by
  have hl : a < M.2.2.2.length := (List.getElem?_eq_some_iff.mp h).1
  simp [am_at, am_put, hl]
theorem am_at_put_ne {M : am_M} {a b : Nat} {e : am_E} (h : a ≠ b) : am_at (am_put M a e) b = am_at M b := by
  simp [am_at, am_put, List.getElem?_set_ne h]
theorem am_len_put {M : am_M} {a : Nat} {e : am_E} : am_len (am_put M a e) = am_len M := by simp [am_len, am_put]
theorem am_len_new {M : am_M} {n : Nat} {e : am_E} : am_len (am_new M n e) = am_len M + 1 := by simp [am_len, am_new]
theorem am_at_lt {M : am_M} {a : Nat} {e : am_E} (h : am_at M a = some e) : a < am_len M := (List.getElem?_eq_some_iff.mp h).1
theorem am_at_new_self {M : am_M} {n : Nat} {e : am_E} : am_at (am_new M n e) (am_len M) = some e := by simp [am_at, am_new, am_len]
theorem am_at_new_old {M : am_M} {n a : Nat} {e : am_E} (h : a < am_len M) : am_at (am_new M n e) a = am_at M a := by
  simp only [am_at, am_new]
  exact List.getElem?_append_left h
/-! fields and arrays -/
def am_fg (M : am_M) (cs : List Nat) (a k : Nat) : Option Value := match am_at M a with
  | some (.inr (c, fs)) => if cs.contains c then fs[k]? else none
  | _ => none
def am_fp (M : am_M) (cs : List Nat) (a k : Nat) (v : Value) : Option am_M := match am_at M a with
  | some (.inr (c, fs)) => if cs.contains c && decide (k < fs.length) then some (am_put M a (.inr (c, fs.set k v))) else none
  | _ => none
/-- what a field or an answer of a type may hold: 0 int, 1 boolean, 2 long, 3 reference, 4 byte, 5 char -/
def am_fit (ty : Nat) (v : Value) : Bool := match ty, v with
  | 0, .int _ => true
  | 1, .int x => decide (x = 0) || decide (x = 1)
  | 2, .long _ => true
  | 3, .ref _ => true
  | 3, .null => true
  | 4, .int x => decide (x.toInt8.toInt32 = x)
  | 5, .int x => decide ((x.toUInt32 % 65536).toInt32 = x)
  | _, _ => false
def am_ins (i : Int32) (n : Nat) : Bool := !(decide (i < 0) || decide (n ≤ i.toNatClampNeg))
def am_ag (M : am_M) (ts : List Nat) (a : Nat) (i : Int32) : Option Value := match am_at M a with
  | some (.inl (t, n, .inl f)) => if (ts.contains t && (decide (t < 3) || decide (50 ≤ t))) && am_ins i n then some (.int (f i.toNatClampNeg)) else none
  | some (.inl (t, n, .inr (.inl f))) => if (ts.contains t && decide (t = 3)) && am_ins i n then some (.long (f i.toNatClampNeg)) else none
  | some (.inl (t, n, .inr (.inr (.inr (.inr f))))) => if (ts.contains t && (decide (4 ≤ t) && decide (t < 9))) && am_ins i n then some (va_rf (f i.toNatClampNeg)) else none
  | _ => none
/-- what an array of ints, bytes or booleans keeps of an int -/
def am_nar (t : Nat) (x : Int32) : Int32 := match t with
  | 0 => x
  | 1 => vp_nar .byte x
  | _ => vp_nar .boolean x
def am_ap (M : am_M) (ts : List Nat) (a : Nat) (i x : Int32) : Option am_M := match am_at M a with
  | some (.inl (t, n, .inl f)) => if ts.contains t && am_ins i n then some (am_put M a (.inl (t, n, .inl (upd f i.toNatClampNeg (am_nar t x))))) else none
  | _ => none
def am_alp (M : am_M) (a : Nat) (i : Int32) (x : Int64) : Option am_M := match am_at M a with
  | some (.inl (t, n, .inr (.inl f))) => if decide (t = 3) && am_ins i n then some (am_put M a (.inl (t, n, .inr (.inl (vp_updL f i.toNatClampNeg x))))) else none
  | _ => none
def am_arp (M : am_M) (t0 : Nat) (cs : List Nat) (a : Nat) (i : Int32) (v : Nat) : Option am_M := match am_at M a with
  | some (.inl (t, n, .inr (.inr (.inr (.inr f))))) => if decide (t = t0) && am_ins i n && cs.contains (am_cls M v) then some (am_put M a (.inl (t, n, .inr (.inr (.inr (.inr (va_up f i.toNatClampNeg (some v)))))))) else none
  | _ => none
def am_al (M : am_M) (a : Nat) : Option Int32 := match am_at M a with
  | some (.inl (_, n, _)) => some (Int32.ofNat n)
  | _ => none
/-- System.arraycopy: arrays of ints (0), bytes (1) -/
def am_cpi (M : am_M) (t0 a0 : Nat) (sp : Int32) (a1 : Nat) (dp n : Int32) : Option am_M := match am_at M a0, am_at M a1 with
  | some (.inl (t, n0, .inl f)), some (.inl (t', n1, .inl g)) =>
    if decide (t = t0) && decide (t' = t0) && (decide (0 ≤ sp) && decide (0 ≤ dp) && decide (0 ≤ n)) && decide (sp.toNatClampNeg + n.toNatClampNeg ≤ n0) && decide (dp.toNatClampNeg + n.toNatClampNeg ≤ n1) && (List.range n.toNatClampNeg).all (fun i => decide (am_nar t0 (f (sp.toNatClampNeg + i)) = f (sp.toNatClampNeg + i)))
    then some (am_put M a1 (.inl (t', n1, .inl (va_cpy f g sp.toNatClampNeg dp.toNatClampNeg n.toNatClampNeg)))) else none
  | _, _ => none
/-- .. of references of the classes cs -/
def am_cpr (M : am_M) (t0 : Nat) (cs : List Nat) (a0 : Nat) (sp : Int32) (a1 : Nat) (dp n : Int32) : Option am_M := match am_at M a0, am_at M a1 with
  | some (.inl (t, n0, .inr (.inr (.inr (.inr f))))), some (.inl (t', n1, .inr (.inr (.inr (.inr g))))) =>
    if decide (t = t0) && decide (t' = t0) && (decide (0 ≤ sp) && decide (0 ≤ dp) && decide (0 ≤ n)) && decide (sp.toNatClampNeg + n.toNatClampNeg ≤ n0) && decide (dp.toNatClampNeg + n.toNatClampNeg ≤ n1) && (List.range n.toNatClampNeg).all (fun i => match f (sp.toNatClampNeg + i) with | none => true | some v => cs.contains (am_cls M v))
    then some (am_put M a1 (.inl (t', n1, .inr (.inr (.inr (.inr (va_cpy f g sp.toNatClampNeg dp.toNatClampNeg n.toNatClampNeg))))))) else none
  | _, _ => none
/-- the contents of a new array of a kind -/
def am_zero (t : Nat) (n : Nat) : vp_A := if t < 3 then (n, .inl (fun _ => 0)) else if t = 3 then (n, .inr (.inl (fun _ => 0))) else (n, .inr (.inr (.inr (.inr (fun _ => none)))))
/-- the machine -/
def am_hfind (hs : List (Nat × Nat × Nat × List Nat)) (pc c : Nat) : Option Nat := (hs.find? (fun h => decide (h.1 ≤ pc) && decide (pc < h.2.1) && (h.2.2.2.contains c || h.2.2.2.isEmpty))).map (fun h => h.2.2.1)
def am_run (T : Nat → Option am_S) (hs : List (Nat × Nat × Nat × List Nat)) (call : Nat → List Value → am_M → Option am_O) : Nat → Nat → am_L → List Value → am_M → Option am_O
  | 0, _, _, _, _ => none
  | n + 1, pc, L, S, M => match T pc with
    | none => none
    | some f => match f L S M with
      | none => none
      | some (.inl (pc', L', S', M')) => am_run T hs call n pc' L' S' M'
      | some (.inr (.inl (.inl v, M'))) => some (.inl v, M')
      | some (.inr (.inl (.inr q, M'))) => match am_hfind hs pc (am_cls M' q) with
        | none => some (.inr q, M')
        | some h => am_run T hs call n h L [.ref q] M'
      | some (.inr (.inr (y, args, b, nxt, L', rest, M'))) => match call y args M' with
        | none => none
        | some (.inl v, M'') => if v.isSome = b then am_run T hs call n nxt L' (v.toList ++ rest) M'' else none
        | some (.inr q, M'') => match am_hfind hs pc (am_cls M'' q) with
          | none => some (.inr q, M'')
          | some h => am_run T hs call n h L [.ref q] M''
/-- the run from pc comes to the result o -/
def am_G (T : Nat → Option am_S) (hs : List (Nat × Nat × Nat × List Nat)) (call : Nat → List Value → am_M → Option am_O) (pc : Nat) (L : am_L) (S : List Value) (M : am_M) (o : am_O) : Prop := ∃ n, am_run T hs call n pc L S M = some o
def am_X (T : Nat → Option am_S) (hs : List (Nat × Nat × Nat × List Nat)) (call : Nat → List Value → am_M → Option am_O) (pc : Nat) (L : am_L) (o : am_O) (q : Nat) (M : am_M) : Prop := match am_hfind hs pc (am_cls M q) with
  | none => o = (.inr q, M)
  | some h => am_G T hs call h L [.ref q] M o
/-- behind a call that answers -/
def am_C1 (r : Option am_O) (X : Nat → am_M → Prop) (K : Value → am_M → Prop) : Prop := match r with
  | some (.inl (some v), M) => K v M
  | some (.inr q, M) => X q M
  | _ => False
/-- behind a call that answers nothing -/
def am_C0 (r : Option am_O) (X : Nat → am_M → Prop) (K : am_M → Prop) : Prop := match r with
  | some (.inl none, M) => K M
  | some (.inr q, M) => X q M
  | _ => False
def am_ob {α : Type} (x : Option α) (K : α → Prop) : Prop := match x with
  | some v => K v
  | none => False
theorem am_ob_some {α : Type} {v : α} {K : α → Prop} : am_ob (some v) K ↔ K v := Iff.rfl
theorem am_ob_none {α : Type} {K : α → Prop} : am_ob (none : Option α) K ↔ False := Iff.rfl
theorem am_C1_ret {v : Value} {M : am_M} {X : Nat → am_M → Prop} {K : Value → am_M → Prop} : am_C1 (some (.inl (some v), M)) X K ↔ K v M := Iff.rfl
theorem am_C1_thr {q : Nat} {M : am_M} {X : Nat → am_M → Prop} {K : Value → am_M → Prop} : am_C1 (some (.inr q, M)) X K ↔ X q M := Iff.rfl
theorem am_C0_ret {M : am_M} {X : Nat → am_M → Prop} {K : am_M → Prop} : am_C0 (some (.inl none, M)) X K ↔ K M := Iff.rfl
theorem am_C0_thr {q : Nat} {M : am_M} {X : Nat → am_M → Prop} {K : am_M → Prop} : am_C0 (some (.inr q, M)) X K ↔ X q M := Iff.rfl
section AMG
variable {T : Nat → Option am_S} {hs : List (Nat × Nat × Nat × List Nat)} {call : Nat → List Value → am_M → Option am_O} {pc nxt tgt k : Nat} {L : am_L} {S rest : List Value} {M M' : am_M} {o : am_O} {f : am_S}
theorem am_G_next {pc' : Nat} {L' : am_L} {S' : List Value} (hT : T pc = some f) (hf : f L S M = some (.inl (pc', L', S', M'))) : am_G T hs call pc L S M o ↔ am_G T hs call pc' L' S' M' o := by
  constructor
  · rintro ⟨n, h⟩
    cases n with
    | zero => simp [am_run] at h
    | succ n => exact ⟨n, by simpa [am_run, hT, hf] using h⟩
  · rintro ⟨n, h⟩
    exact ⟨n + 1, by simpa [am_run, hT, hf] using h⟩
theorem am_G_stuck (hT : T pc = some f) (hf : f L S M = none) : am_G T hs call pc L S M o ↔ False := by
  constructor
  · rintro ⟨n, h⟩
    cases n with
    | zero => simp [am_run] at h
    | succ n => simp [am_run, hT, hf] at h
  · exact fun h => h.elim
theorem am_G_ret {v : Option Value} (hT : T pc = some f) (hf : f L S M = some (.inr (.inl (.inl v, M')))) : am_G T hs call pc L S M o ↔ o = (.inl v, M') := by
  constructor
  · rintro ⟨n, h⟩
    cases n with
    | zero => simp [am_run] at h
    | succ n =>
      simp only [am_run, hT, hf] at h
      exact (Option.some.inj h).symm
  · rintro rfl
    exact ⟨1, by simp [am_run, hT, hf]⟩
theorem am_G_thr {q : Nat} (hT : T pc = some f) (hf : f L S M = some (.inr (.inl (.inr q, M')))) : am_G T hs call pc L S M o ↔ am_X T hs call pc L o q M' := by
  unfold am_X
  constructor
  · rintro ⟨n, h⟩
    cases n with
    | zero => simp [am_run] at h
    | succ n =>
      simp only [am_run, hT, hf] at h
      cases hc : am_hfind hs pc (am_cls M' q) with
      | none =>
        rw [hc] at h
        exact (Option.some.inj h).symm
      | some t =>
        rw [hc] at h
        exact ⟨n, h⟩
  · intro h
    cases hc : am_hfind hs pc (am_cls M' q) with
    | none =>
      rw [hc] at h
      subst h
      exact ⟨1, by simp [am_run, hT, hf, hc]⟩
    | some t =>
      rw [hc] at h
      obtain ⟨n, h⟩ := h
      exact ⟨n + 1, by simpa [am_run, hT, hf, hc] using h⟩
theorem am_G_call1 {y : Nat} {args : List Value} (hT : T pc = some f) (hf : f L S M = some (.inr (.inr (y, args, true, nxt, L, rest, M')))) : am_G T hs call pc L S M o ↔ am_C1 (call y args M') (am_X T hs call pc L o) (fun v M'' => am_G T hs call nxt L (v :: rest) M'' o) := by
  constructor
  · rintro ⟨n, h⟩
    cases n with
    | zero => simp [am_run] at h
    | succ n =>
      simp only [am_run, hT, hf] at h
      rcases hc : call y args M' with _ | ⟨⟨_ | v⟩ | q, M2⟩
      · rw [hc] at h; simp at h
      · rw [hc] at h; simp at h
      · rw [hc] at h
        exact ⟨n, by simpa using h⟩
      · rw [hc] at h
        show am_X T hs call pc L o q M2
        unfold am_X
        simp only at h
        cases hq : am_hfind hs pc (am_cls M2 q) with
        | none =>
          rw [hq] at h
          exact (Option.some.inj h).symm
        | some t =>
          rw [hq] at h
          exact ⟨n, h⟩
  · intro h
    rcases hc : call y args M' with _ | ⟨⟨_ | v⟩ | q, M2⟩
    · rw [hc] at h; exact h.elim
    · rw [hc] at h; exact h.elim
    · rw [hc] at h
      obtain ⟨n, h⟩ := h
      exact ⟨n + 1, by simpa [am_run, hT, hf, hc] using h⟩
    · rw [hc] at h
      have h : am_X T hs call pc L o q M2 := h
      unfold am_X at h
      cases hq : am_hfind hs pc (am_cls M2 q) with
      | none =>
        rw [hq] at h
        subst h
        exact ⟨1, by simp [am_run, hT, hf, hc, hq]⟩
      | some t =>
        rw [hq] at h
        obtain ⟨n, h⟩ := h
        exact ⟨n + 1, by simpa [am_run, hT, hf, hc, hq] using h⟩
theorem am_G_call0 {y : Nat} {args : List Value} (hT : T pc = some f) (hf : f L S M = some (.inr (.inr (y, args, false, nxt, L, rest, M')))) : am_G T hs call pc L S M o ↔ am_C0 (call y args M') (am_X T hs call pc L o) (fun M'' => am_G T hs call nxt L rest M'' o) := by
  constructor
  · rintro ⟨n, h⟩
    cases n with
    | zero => simp [am_run] at h
    | succ n =>
      simp only [am_run, hT, hf] at h
      rcases hc : call y args M' with _ | ⟨⟨_ | v⟩ | q, M2⟩
      · rw [hc] at h; simp at h
      · rw [hc] at h
        exact ⟨n, by simpa using h⟩
      · rw [hc] at h; simp at h
      · rw [hc] at h
        show am_X T hs call pc L o q M2
        unfold am_X
        simp only at h
        cases hq : am_hfind hs pc (am_cls M2 q) with
        | none =>
          rw [hq] at h
          exact (Option.some.inj h).symm
        | some t =>
          rw [hq] at h
          exact ⟨n, h⟩
  · intro h
    rcases hc : call y args M' with _ | ⟨⟨_ | v⟩ | q, M2⟩
    · rw [hc] at h; exact h.elim
    · rw [hc] at h
      obtain ⟨n, h⟩ := h
      exact ⟨n + 1, by simpa [am_run, hT, hf, hc] using h⟩
    · rw [hc] at h; exact h.elim
    · rw [hc] at h
      have h : am_X T hs call pc L o q M2 := h
      unfold am_X at h
      cases hq : am_hfind hs pc (am_cls M2 q) with
      | none =>
        rw [hq] at h
        subst h
        exact ⟨1, by simp [am_run, hT, hf, hc, hq]⟩
      | some t =>
        rw [hq] at h
        obtain ⟨n, h⟩ := h
        exact ⟨n + 1, by simpa [am_run, hT, hf, hc, hq] using h⟩
theorem am_run_mono {n m : Nat} (h : n ≤ m) : ∀ {pc : Nat} {L : am_L} {S : List Value} {M : am_M}, am_run T hs call n pc L S M = some o → am_run T hs call m pc L S M = some o := by
  induction n generalizing m with
  | zero => intro pc L S M h1; simp [am_run] at h1
  | succ n ih =>
    intro pc L S M h1
    obtain ⟨m, rfl⟩ : ∃ j, m = j + 1 := ⟨m - 1, by omega⟩
    have h2 : n ≤ m := by omega
    rw [am_run] at h1 ⊢
    split at h1
    · exact h1
    · split at h1
      · exact h1
      · exact ih h2 h1
      · exact h1
      · split at h1
        · exact h1
        · exact ih h2 h1
      · split at h1
        · exact h1
        · split at h1
          · rename_i hb
            rw [if_pos hb]
            exact ih h2 h1
          · cases h1
        · split at h1
          · exact h1
          · exact ih h2 h1
theorem am_G_det {o' : am_O} (h : am_G T hs call pc L S M o) (h' : am_G T hs call pc L S M o') : o = o' := by
  obtain ⟨n, h⟩ := h
  obtain ⟨m, h'⟩ := h'
  have h1 := am_run_mono (Nat.le_max_left n m) h
  have h2 := am_run_mono (Nat.le_max_right n m) h'
  exact Option.some.inj (h1.symm.trans h2)
end AMG
