/-! Soundness of AM: contexts, and the rows of locals, stack, arithmetic, branches -/
set_option maxRecDepth 100000
/-- the class of a thing thrown -/
def as_ex (c : Nat) : String := if c = 8 then "FiveTouch$Wrong" else "java/lang/ArrayIndexOutOfBoundsException"
def as_Qc (G : as_P) (M0 : am_M) (o : am_O) (r0 : Nat → Nat) : Array Value → State → Outcome → State → Prop := fun _ st oc t => (∃ (v : Option Value) (r : Nat → Nat), o.1 = .inl v ∧ as_W G r o.2 t.heap ∧ (∀ a, a < am_len M0 → r a = r0 a) ∧ oc = .returned (v.map (as_v r))) ∧ va_F (as_A G) st t
def as_XC (G : as_P) (M0 : am_M) (o : am_O) (r0 : Nat → Nat) : Addr → String → State → State → Prop := fun q E st t => (∃ (qa : Nat) (r : Nat → Nat), o.1 = .inr qa ∧ as_W G r o.2 t.heap ∧ (∀ a, a < am_len M0 → r a = r0 a) ∧ q = r qa ∧ E = as_ex (am_cls o.2 qa)) ∧ va_F (as_A G) st t
def as_Q (p : Program) (l : Launch) (e : Env) (R : Room) (s : State) (m : MethodId) (args : Array Value) (below : List Frame) (meth : Method) (c : Code) (G : as_P) (M0 : am_M) (o : am_O) (r0 : Nat → Nat) : State → Prop := vx_MQ below (as_Qc G M0 o r0) (as_XC G M0 o r0) args s (o.2.1 - M0.1) (o.2.2.1 - M0.2.1) (as_A G)
def as_Z (M : am_M) (o : am_O) : Prop := M.1 ≤ o.2.1 ∧ M.2.1 ≤ o.2.2.1 ∧ am_len M ≤ am_len o.2
def as_Y (M0 M : am_M) : Prop := M0.1 ≤ M.1 ∧ M0.2.1 ≤ M.2.1 ∧ am_len M0 ≤ am_len M
/-- from pc on, with these locals, stack, memory, the machine comes to the result o -/
def as_J (p : Program) (l : Launch) (e : Env) (R : Room) (s : State) (m : MethodId) (args : Array Value) (below : List Frame) (meth : Method) (c : Code) (G : as_P) (M0 : am_M) (o : am_O) (r0 : Nat → Nat) (mx pc : Nat) (L : am_L) (S : List Value) (M : am_M) : Prop :=
  as_Z M o ∧ ∀ (r : Nat → Nat) (H : Heap) (locs : List Loc) (ls : Array Slot), as_W G r M H → (∀ a, a < am_len M0 → r a = r0 a) → va_S (as_A G) s.heap H locs → as_L r ls mx L → as_Y M0 M → W p l e R s m args below meth c H locs (M.1 - M0.1) (M.2.1 - M0.2.1) (as_Q p l e R s m args below meth c G M0 o r0) (F0 m pc ls (S.map (as_v r)))
/-- .. with q thrown at pc -/
def as_JX (p : Program) (l : Launch) (e : Env) (R : Room) (s : State) (m : MethodId) (args : Array Value) (below : List Frame) (meth : Method) (c : Code) (G : as_P) (M0 : am_M) (o : am_O) (r0 : Nat → Nat) (mx pc : Nat) (L : am_L) (q : Nat) (M : am_M) : Prop :=
  as_Z M o ∧ ∀ (r : Nat → Nat) (H : Heap) (locs : List Loc) (ls : Array Slot) (rest : List Value) (ce : Cell), as_W G r M H → (∀ a, a < am_len M0 → r a = r0 a) → va_S (as_A G) s.heap H locs → as_L r ls mx L → as_Y M0 M → H[r q]? = some ce → ce.vm = .none → s.vm.findClass (as_ex (am_cls M q)) = some ce.cls → vx_W p l e R s m args below meth c H locs (M.1 - M0.1) (M.2.1 - M0.2.1) (as_Q p l e R s m args below meth c G M0 o r0) (F0 m pc ls rest) (r q)
/-- the room left -/
def as_R (R : Room) (d : Nat) (M0 : am_M) (o : am_O) : Prop := d + 21 ≤ R.frames ∧ o.2.1 - M0.1 ≤ R.cells ∧ o.2.2.1 - M0.2.1 ≤ R.slots ∧ 12000 + 40 * (d + 1) ≤ R.locals
/-- what a method's body has at hand -/
def as_C (p : Program) (l : Launch) (e : Env) (R : Room) (s : State) (m : MethodId) (args : Array Value) (below : List Frame) (meth : Method) (c : Code) (G : as_P) (M0 : am_M) (o : am_O) (r0 : Nat → Nat) (d : Nat) (yn : MethodName) (cc : ByteArray) (mx : Nat) (rt : Option FieldType) (hh : List (Nat × Nat × Nat × Nat)) : Prop :=
  p.tables.exec = Jvm.exec ∧ c.code = cc ∧ meth.sig.returnType = rt ∧ c.maxLocals = mx ∧ (∀ w ∈ lw_all, w.before args s = true) ∧ s.vm.findClass yn.cls = some m.cls ∧ meth.locks = false ∧ meth.name = yn.name ∧ l.stackTraces = false ∧ as_F G s s.heap ∧
  as_R R d M0 o ∧ c.exceptionTable.toList = tableOf hh
/-- the words of a method: the ones with handlers have their own -/
def as_ws (yn : MethodName) (cc : ByteArray) (mx : Nat) (rt : Option FieldType) (hh : List (Nat × Nat × Nat × Nat)) : List Cond := (match hh with
  | [] => Cond.code yn cc mx rt
  | _ => Cond.codeWith yn cc mx rt hh) :: lw_all
/-- a method's contract: from memory M, with these arguments, to the result o -/
def as_K (G : as_P) (l : Launch) (d : Nat) (yn : MethodName) (cc : ByteArray) (mx : Nat) (rt : Option FieldType) (hh : List (Nat × Nat × Nat × Nat)) (av : List Value) (M : am_M) (o : am_O) : Prop :=
  as_Z M o ∧ ∀ r0 : Nat → Nat, vx_Met l yn (as_ws yn cc mx rt hh) { frames := d + 20, cells := o.2.1 - M.1, slots := o.2.2.1 - M.2.1, locals := 12000 + 40 * d } (va_Pc (av.map (as_v r0)) (fun U => as_W G r0 M U.heap ∧ as_F G U U.heap)) (as_Qc G M o r0) (as_XC G M o r0) (o.2.1 - M.1) (o.2.2.1 - M.2.1) (as_A G)
/-- a method's record: name, bytes, locals, answer, handlers -/
abbrev as_D : Type := MethodName × ByteArray × Nat × Option FieldType × List (Nat × Nat × Nat × Nat)
/-- the contracts of all methods at a depth -/
def as_Ks (G : as_P) (l : Launch) (Y : Nat → Option as_D) (d : Nat) : Prop := ∀ (y : Nat) (D : as_D), Y y = some D → ∀ (av : List Value) (M : am_M) (o : am_O), am_cM M → (∀ v ∈ av, am_cv (am_len M) v) → am_call d y av M = some o → as_K G l d D.1 D.2.1 D.2.2.1 D.2.2.2.1 D.2.2.2.2 av M o
/-- what a step owes -/
def as_P1 (p : Program) (l : Launch) (e : Env) (R : Room) (s : State) (m : MethodId) (args : Array Value) (below : List Frame) (meth : Method) (c : Code) (G : as_P) (M0 : am_M) (o : am_O) (r0 : Nat → Nat) (mx d pc : Nat) (L : am_L) (S : List Value) (M : am_M) (x : Option am_R) : Prop := match x with
  | none => True
  | some (.inl (pc', L', S', M')) => as_J p l e R s m args below meth c G M0 o r0 mx pc' L' S' M' → as_J p l e R s m args below meth c G M0 o r0 mx pc L S M
  | some (.inr (.inl (.inl v, M'))) => o = (.inl v, M') → as_J p l e R s m args below meth c G M0 o r0 mx pc L S M
  | some (.inr (.inl (.inr q, M'))) => as_JX p l e R s m args below meth c G M0 o r0 mx pc L q M' → as_J p l e R s m args below meth c G M0 o r0 mx pc L S M
  | some (.inr (.inr (y, av, b, nxt, L', rest, M'))) => L' = L ∧ ∀ o', am_call d y av M' = some o' → match o' with
    | (.inl v, M2) => v.isSome = b → as_J p l e R s m args below meth c G M0 o r0 mx nxt L (v.toList ++ rest) M2 → as_J p l e R s m args below meth c G M0 o r0 mx pc L S M
    | (.inr q, M2) => as_JX p l e R s m args below meth c G M0 o r0 mx pc L q M2 → as_J p l e R s m args below meth c G M0 o r0 mx pc L S M
/-- a row of a method's table is sound -/
def as_OK (Y : Nat → Option as_D) (yn : MethodName) (cc : ByteArray) (mx : Nat) (rt : Option FieldType) (hh : List (Nat × Nat × Nat × Nat)) (pc : Nat) (f : am_S) : Prop :=
  ∀ (p : Program) (l : Launch) (e : Env) (R : Room) (s : State) (m : MethodId) (args : Array Value) (below : List Frame) (meth : Method) (c : Code) (G : as_P) (M0 : am_M) (o : am_O) (r0 : Nat → Nat) (d : Nat), as_Ks G l Y d → as_C p l e R s m args below meth c G M0 o r0 d yn cc mx rt hh → ∀ (L : am_L) (S : List Value) (M : am_M), am_Cl L S M → as_P1 p l e R s m args below meth c G M0 o r0 mx d pc L S M (f L S M)
section ASR
variable {p : Program} {l : Launch} {e : Env} {R : Room} {s : State} {m : MethodId} {args : Array Value} {below : List Frame} {meth : Method} {c : Code} {G : as_P} {d : Nat} {M0 : am_M} {o : am_O} {r0 : Nat → Nat} {yn : MethodName} {cc : ByteArray} {mx : Nat} {rt : Option FieldType} {hh : List (Nat × Nat × Nat × Nat)} {Y : Nat → Option as_D} {pc nxt tgt : Nat}
/-- a step that leaves locals' and memory's bounds as they are -/
theorem as_same {L L' : am_L} {S S' : List Value} {M : am_M} {pc' : Nat} (h : ∀ (r : Nat → Nat) (H : Heap) (locs : List Loc) (ls : Array Slot), as_W G r M H → va_S (as_A G) s.heap H locs → as_L r ls mx L → (∀ ls', as_L r ls' mx L' → W p l e R s m args below meth c H locs (M.1 - M0.1) (M.2.1 - M0.2.1) (as_Q p l e R s m args below meth c G M0 o r0) (F0 m pc' ls' (S'.map (as_v r)))) → W p l e R s m args below meth c H locs (M.1 - M0.1) (M.2.1 - M0.2.1) (as_Q p l e R s m args below meth c G M0 o r0) (F0 m pc ls (S.map (as_v r)))) :
    as_J p l e R s m args below meth c G M0 o r0 mx pc' L' S' M → as_J p l e R s m args below meth c G M0 o r0 mx pc L S M := fun hk => ⟨hk.1, fun r H locs ls hW hr hS hL hY => h r H locs ls hW hS hL (fun ls' hL' => hk.2 r H locs ls' hW hr hS hL' hY)⟩
theorem as_iconst {n : Int} {v : Int32} (hd : decode cc pc = .ok (.iconst n, 1)) (hv : Int32.ofInt n = v) : as_OK Y yn cc mx rt hh pc (am_push (.int v) (pc + 1)) := by
  intro p l e R s m args below meth c G M0 o r0 d hK hC L S M hcl
  obtain ⟨hx, hcc, hr, hml, hts, hown, hlocks, hname, htr, hF, hR, htab⟩ := hC
  exact as_same (fun r H locs ls hW hS hL hk => lv_iconst hx hcc hd hv (hk ls hL))

theorem as_bipush {n : Int} {v : Int32} (hd : decode cc pc = .ok (.bipush n, 2)) (hv : (Int8.ofInt n).toInt32 = v) : as_OK Y yn cc mx rt hh pc (am_push (.int v) (pc + 2)) := by
  intro p l e R s m args below meth c G M0 o r0 d hK hC L S M hcl
  obtain ⟨hx, hcc, hr, hml, hts, hown, hlocks, hname, htr, hF, hR, htab⟩ := hC
  exact as_same (fun r H locs ls hW hS hL hk => lv_bipush hx hcc hd hv (hk ls hL))

theorem as_sipush {n : Int} {v : Int32} (hd : decode cc pc = .ok (.sipush n, 3)) (hv : (Int16.ofInt n).toInt32 = v) : as_OK Y yn cc mx rt hh pc (am_push (.int v) (pc + 3)) := by
  intro p l e R s m args below meth c G M0 o r0 d hK hC L S M hcl
  obtain ⟨hx, hcc, hr, hml, hts, hown, hlocks, hname, htr, hF, hR, htab⟩ := hC
  exact as_same (fun r H locs ls hW hS hL hk => lv_sipush hx hcc hd hv (hk ls hL))

theorem as_lconst {n : Fin 2} {v : Int64} (hd : decode cc pc = .ok (.lconst n, 1)) (hv : Int64.ofNat (n : Nat) = v) : as_OK Y yn cc mx rt hh pc (am_push (.long v) (pc + 1)) := by
  intro p l e R s m args below meth c G M0 o r0 d hK hC L S M hcl
  obtain ⟨hx, hcc, hr, hml, hts, hown, hlocks, hname, htr, hF, hR, htab⟩ := hC
  exact as_same (fun r H locs ls hW hS hL hk => lv_lconst hx hcc hd hv (hk ls hL))

theorem as_ldc {own : String} {index : Nat} {v : Int32} (ho : own = yn.cls) (hq : Jvm.Cond.constant own index v ∈ lw_all) (hd : decode cc pc = .ok (.ldc index, 2)) : as_OK Y yn cc mx rt hh pc (am_push (.int v) (pc + 2)) := by
  intro p l e R s m args below meth c G M0 o r0 d hK hC L S M hcl
  obtain ⟨hx, hcc, hr, hml, hts, hown, hlocks, hname, htr, hF, hR, htab⟩ := hC
  exact as_same (fun r H locs ls hW hS hL hk => lv_ldc hx hcc (by rw [ho]; exact hown) (hts _ hq) hd (hk ls hL))

theorem as_ldcw {own : String} {index : Nat} {v : Int32} (ho : own = yn.cls) (hq : Jvm.Cond.constant own index v ∈ lw_all) (hd : decode cc pc = .ok (.ldc_w index, 3)) : as_OK Y yn cc mx rt hh pc (am_push (.int v) (pc + 3)) := by
  intro p l e R s m args below meth c G M0 o r0 d hK hC L S M hcl
  obtain ⟨hx, hcc, hr, hml, hts, hown, hlocks, hname, htr, hF, hR, htab⟩ := hC
  exact as_same (fun r H locs ls hW hS hL hk => lv_ldcw hx hcc (by rw [ho]; exact hown) (hts _ hq) hd (hk ls hL))

theorem as_ldc2 {own : String} {index : Nat} {v : Int64} (ho : own = yn.cls) (hq : Jvm.Cond.constantLong own index v ∈ lw_all) (hd : decode cc pc = .ok (.ldc2_w index, 3)) : as_OK Y yn cc mx rt hh pc (am_push (.long v) (pc + 3)) := by
  intro p l e R s m args below meth c G M0 o r0 d hK hC L S M hcl
  obtain ⟨hx, hcc, hr, hml, hts, hown, hlocks, hname, htr, hF, hR, htab⟩ := hC
  exact as_same (fun r H locs ls hW hS hL hk => lv_ldc2 hx hcc (by rw [ho]; exact hown) (hts _ hq) hd (hk ls hL))

theorem as_null (hd : decode cc pc = .ok (.aconst_null, 1)) : as_OK Y yn cc mx rt hh pc (am_push .null (pc + 1)) := by
  intro p l e R s m args below meth c G M0 o r0 d hK hC L S M hcl
  obtain ⟨hx, hcc, hr, hml, hts, hown, hlocks, hname, htr, hF, hR, htab⟩ := hC
  exact as_same (fun r H locs ls hW hS hL hk => lv_null hx hcc hd (hk ls hL))

theorem as_iload_n {k : Fin 4} {i : Nat} (hd : decode cc pc = .ok (.iload_n k, 1)) (hi : (k : Nat) = i) : as_OK Y yn cc mx rt hh pc (am_ild i (pc + 1)) := by
  intro p l e R s m args below meth c G M0 o r0 d hK hC L S M hcl
  obtain ⟨hx, hcc, hr, hml, hts, hown, hlocks, hname, htr, hF, hR, htab⟩ := hC
  unfold am_ild
  split
  · rename_i x hx2
    exact as_same (fun r H locs ls hW hS hL hk => lv_iload_n hx hcc hd hi (hL.at hx2) (hk ls hL))
  · trivial

theorem as_lload_n {k : Fin 4} {i : Nat} (hd : decode cc pc = .ok (.lload_n k, 1)) (hi : (k : Nat) = i) : as_OK Y yn cc mx rt hh pc (am_lld i (pc + 1)) := by
  intro p l e R s m args below meth c G M0 o r0 d hK hC L S M hcl
  obtain ⟨hx, hcc, hr, hml, hts, hown, hlocks, hname, htr, hF, hR, htab⟩ := hC
  unfold am_lld
  split
  · rename_i x hx2
    exact as_same (fun r H locs ls hW hS hL hk => lv_lload_n hx hcc hd hi (hL.at hx2) (hk ls hL))
  · trivial

theorem as_iload {i : Nat} (hd : decode cc pc = .ok (.iload i, 2)) : as_OK Y yn cc mx rt hh pc (am_ild i (pc + 2)) := by
  intro p l e R s m args below meth c G M0 o r0 d hK hC L S M hcl
  obtain ⟨hx, hcc, hr, hml, hts, hown, hlocks, hname, htr, hF, hR, htab⟩ := hC
  unfold am_ild
  split
  · rename_i x hx2
    exact as_same (fun r H locs ls hW hS hL hk => lv_iload hx hcc hd (hL.at hx2) (hk ls hL))
  · trivial

theorem as_lload {i : Nat} (hd : decode cc pc = .ok (.lload i, 2)) : as_OK Y yn cc mx rt hh pc (am_lld i (pc + 2)) := by
  intro p l e R s m args below meth c G M0 o r0 d hK hC L S M hcl
  obtain ⟨hx, hcc, hr, hml, hts, hown, hlocks, hname, htr, hF, hR, htab⟩ := hC
  unfold am_lld
  split
  · rename_i x hx2
    exact as_same (fun r H locs ls hW hS hL hk => lv_lload hx hcc hd (hL.at hx2) (hk ls hL))
  · trivial

theorem as_aload_n {k : Fin 4} {i : Nat} (hd : decode cc pc = .ok (.aload_n k, 1)) (hi : (k : Nat) = i) : as_OK Y yn cc mx rt hh pc (am_ald i (pc + 1)) := by
  intro p l e R s m args below meth c G M0 o r0 d hK hC L S M hcl
  obtain ⟨hx, hcc, hr, hml, hts, hown, hlocks, hname, htr, hF, hR, htab⟩ := hC
  unfold am_ald
  split
  · rename_i x hx2
    exact as_same (fun r H locs ls hW hS hL hk => lv_aload_n hx hcc hd hi (hL.at hx2) (hk ls hL))
  · rename_i hx2
    exact as_same (fun r H locs ls hW hS hL hk => lv_aload_nN hx hcc hd hi (hL.at hx2) (hk ls hL))
  · trivial

theorem as_aload {i : Nat} (hd : decode cc pc = .ok (.aload i, 2)) : as_OK Y yn cc mx rt hh pc (am_ald i (pc + 2)) := by
  intro p l e R s m args below meth c G M0 o r0 d hK hC L S M hcl
  obtain ⟨hx, hcc, hr, hml, hts, hown, hlocks, hname, htr, hF, hR, htab⟩ := hC
  unfold am_ald
  split
  · rename_i x hx2
    exact as_same (fun r H locs ls hW hS hL hk => lv_aload hx hcc hd (hL.at hx2) (hk ls hL))
  · rename_i hx2
    exact as_same (fun r H locs ls hW hS hL hk => lv_aloadN hx hcc hd (hL.at hx2) (hk ls hL))
  · trivial

theorem as_st_ok {r : Nat → Nat} {ls ls' : Array Slot} {mx i : Nat} {L : am_L} {v : Value} (hL : as_L r ls mx L) (hi : i < L.length) (hn : am_nl L i = true) (h : lv_has ls' mx ((i, as_v r v) :: ((List.range mx).filterMap (fun k => match L[k]? with | some (some v) => some (k, as_v r v) | _ => none)).filter (fun q => !(q.1 == i) && !(q.1 + 1 == i && q.2.category == 2)))) : as_L r ls' mx (L.set i (some v)) := by
  refine as_L.mono (by rw [List.length_set]; exact hL.1) h (fun k w hk => ?_)
  by_cases e : k = i
  · subst e
    rw [List.getElem?_set_self hi] at hk
    cases hk
    exact List.mem_cons_self
  · rw [List.getElem?_set_ne (Ne.symm e)] at hk
    refine List.mem_cons_of_mem _ (List.mem_filter.mpr ⟨hL.mem hk, ?_⟩)
    have h1 : (k == i) = false := by simpa using e
    rw [h1]
    cases h2 : (k + 1 == i) with
    | false => rfl
    | true =>
      have h3 : i = k + 1 := (by simpa using h2 : k + 1 = i).symm
      subst h3
      cases w with
      | long x => simp [am_nl, hk] at hn
      | double x => simp [am_nl, hk] at hn
      | _ => rfl
theorem as_lst_ok {r : Nat → Nat} {ls ls' : Array Slot} {mx i : Nat} {L : am_L} {v : Value} (hL : as_L r ls mx L) (hi : i + 1 < L.length) (hn : am_nl L i = true) (h : lv_has ls' mx ((i, as_v r v) :: ((List.range mx).filterMap (fun k => match L[k]? with | some (some v) => some (k, as_v r v) | _ => none)).filter (fun q => !(q.1 == i) && (!(q.1 == i + 1) && !(q.1 + 1 == i && q.2.category == 2))))) : as_L r ls' mx ((L.set i (some v)).set (i + 1) none) := by
  refine as_L.mono (by rw [List.length_set, List.length_set]; exact hL.1) h (fun k w hk => ?_)
  by_cases e1 : k = i + 1
  · subst e1
    rw [List.getElem?_set_self (by rw [List.length_set]; exact hi)] at hk
    cases hk
  · rw [List.getElem?_set_ne (Ne.symm e1)] at hk
    by_cases e : k = i
    · subst e
      rw [List.getElem?_set_self (by omega)] at hk
      cases hk
      exact List.mem_cons_self
    · rw [List.getElem?_set_ne (Ne.symm e)] at hk
      refine List.mem_cons_of_mem _ (List.mem_filter.mpr ⟨hL.mem hk, ?_⟩)
      have h1 : (k == i) = false := by simpa using e
      have h0 : (k == i + 1) = false := by simpa using e1
      rw [h1, h0]
      cases h2 : (k + 1 == i) with
      | false => rfl
      | true =>
        have h3 : i = k + 1 := (by simpa using h2 : k + 1 = i).symm
        subst h3
        cases w with
        | long x => simp [am_nl, hk] at hn
        | double x => simp [am_nl, hk] at hn
        | _ => rfl

theorem as_istore_n {k : Fin 4} {i : Nat} (hd : decode cc pc = .ok (.istore_n k, 1)) (hi : (k : Nat) = i) : as_OK Y yn cc mx rt hh pc (am_sti i (pc + 1)) := by
  intro p l e R s m args below meth c G M0 o r0 d hK hC L S M hcl
  obtain ⟨hx, hcc, hr, hml, hts, hown, hlocks, hname, htr, hF, hR, htab⟩ := hC
  unfold am_sti
  split
  · split
    · rename_i hc
      simp only [Bool.and_eq_true, decide_eq_true_eq] at hc
      exact as_same (fun r H locs ls hW hS hL hk => lv_istore_n hx hcc hd hi hL.2 (by rw [← hL.1]; exact hc.1) rfl (fun ls hl => hk ls (as_st_ok hL hc.1 hc.2 hl)))
    · trivial
  · trivial

theorem as_istore {i : Nat} (hd : decode cc pc = .ok (.istore i, 2)) : as_OK Y yn cc mx rt hh pc (am_sti i (pc + 2)) := by
  intro p l e R s m args below meth c G M0 o r0 d hK hC L S M hcl
  obtain ⟨hx, hcc, hr, hml, hts, hown, hlocks, hname, htr, hF, hR, htab⟩ := hC
  unfold am_sti
  split
  · split
    · rename_i hc
      simp only [Bool.and_eq_true, decide_eq_true_eq] at hc
      exact as_same (fun r H locs ls hW hS hL hk => lv_istore hx hcc hd hL.2 (by rw [← hL.1]; exact hc.1) rfl (fun ls hl => hk ls (as_st_ok hL hc.1 hc.2 hl)))
    · trivial
  · trivial

theorem as_astore_n {k : Fin 4} {i : Nat} (hd : decode cc pc = .ok (.astore_n k, 1)) (hi : (k : Nat) = i) : as_OK Y yn cc mx rt hh pc (am_sta i (pc + 1)) := by
  intro p l e R s m args below meth c G M0 o r0 d hK hC L S M hcl
  obtain ⟨hx, hcc, hr, hml, hts, hown, hlocks, hname, htr, hF, hR, htab⟩ := hC
  unfold am_sta
  split
  · split
    · rename_i hc
      simp only [Bool.and_eq_true, decide_eq_true_eq] at hc
      exact as_same (fun r H locs ls hW hS hL hk => lv_astore_n hx hcc hd hi hL.2 (by rw [← hL.1]; exact hc.1) rfl (fun ls hl => hk ls (as_st_ok hL hc.1 hc.2 hl)))
    · trivial
  · split
    · rename_i hc
      simp only [Bool.and_eq_true, decide_eq_true_eq] at hc
      exact as_same (fun r H locs ls hW hS hL hk => lv_astore_nN hx hcc hd hi hL.2 (by rw [← hL.1]; exact hc.1) rfl (fun ls hl => hk ls (as_st_ok hL hc.1 hc.2 hl)))
    · trivial
  · trivial

theorem as_astore {i : Nat} (hd : decode cc pc = .ok (.astore i, 2)) : as_OK Y yn cc mx rt hh pc (am_sta i (pc + 2)) := by
  intro p l e R s m args below meth c G M0 o r0 d hK hC L S M hcl
  obtain ⟨hx, hcc, hr, hml, hts, hown, hlocks, hname, htr, hF, hR, htab⟩ := hC
  unfold am_sta
  split
  · split
    · rename_i hc
      simp only [Bool.and_eq_true, decide_eq_true_eq] at hc
      exact as_same (fun r H locs ls hW hS hL hk => lv_astore hx hcc hd hL.2 (by rw [← hL.1]; exact hc.1) rfl (fun ls hl => hk ls (as_st_ok hL hc.1 hc.2 hl)))
    · trivial
  · split
    · rename_i hc
      simp only [Bool.and_eq_true, decide_eq_true_eq] at hc
      exact as_same (fun r H locs ls hW hS hL hk => lv_astoreN hx hcc hd hL.2 (by rw [← hL.1]; exact hc.1) rfl (fun ls hl => hk ls (as_st_ok hL hc.1 hc.2 hl)))
    · trivial
  · trivial

theorem as_lstore_n {k : Fin 4} {i : Nat} (hd : decode cc pc = .ok (.lstore_n k, 1)) (hi : (k : Nat) = i) : as_OK Y yn cc mx rt hh pc (am_lst i (pc + 1)) := by
  intro p l e R s m args below meth c G M0 o r0 d hK hC L S M hcl
  obtain ⟨hx, hcc, hr, hml, hts, hown, hlocks, hname, htr, hF, hR, htab⟩ := hC
  unfold am_lst
  split
  · split
    · rename_i hc
      simp only [Bool.and_eq_true, decide_eq_true_eq] at hc
      exact as_same (fun r H locs ls hW hS hL hk => lv_lstore_n hx hcc hd hi hL.2 (by rw [← hL.1]; exact hc.1) rfl (fun ls hl => hk ls (as_lst_ok (v := .long _) hL hc.1 hc.2 hl)))
    · trivial
  · trivial

theorem as_lstore {i : Nat} (hd : decode cc pc = .ok (.lstore i, 2)) : as_OK Y yn cc mx rt hh pc (am_lst i (pc + 2)) := by
  intro p l e R s m args below meth c G M0 o r0 d hK hC L S M hcl
  obtain ⟨hx, hcc, hr, hml, hts, hown, hlocks, hname, htr, hF, hR, htab⟩ := hC
  unfold am_lst
  split
  · split
    · rename_i hc
      simp only [Bool.and_eq_true, decide_eq_true_eq] at hc
      exact as_same (fun r H locs ls hW hS hL hk => lv_lstore hx hcc hd hL.2 (by rw [← hL.1]; exact hc.1) rfl (fun ls hl => hk ls (as_lst_ok (v := .long _) hL hc.1 hc.2 hl)))
    · trivial
  · trivial

theorem as_iinc {i : Nat} {n : Int} {v : Int32} (hd : decode cc pc = .ok (.iinc i n, 3)) (hv : Int32.ofInt n = v) : as_OK Y yn cc mx rt hh pc (am_inc i v (pc + 3)) := by
  intro p l e R s m args below meth c G M0 o r0 d hK hC L S M hcl
  obtain ⟨hx, hcc, hr, hml, hts, hown, hlocks, hname, htr, hF, hR, htab⟩ := hC
  unfold am_inc
  split
  · rename_i x hx2
    split
    · rename_i hc
      have hlt : i < L.length := (List.getElem?_eq_some_iff.mp hx2).1
      refine as_same (fun r H locs ls hW hS hL hk => ?_)
      obtain ⟨k, hk2⟩ := List.getElem?_of_mem (hL.mem hx2)
      exact lv_iinc hx hcc hd hL.2 hk2 rfl (by rw [← hL.1]; exact hlt) rfl (fun ls hl => hk ls (as_st_ok (v := .int (x + v)) hL hlt hc (by rw [hv] at hl; exact hl)))
    · trivial
  · trivial

theorem as_iadd (hd : decode cc pc = .ok (.iadd, 1)) : as_OK Y yn cc mx rt hh pc (am_bi (fun x y => x + y) (pc + 1)) := by
  intro p l e R s m args below meth c G M0 o r0 d hK hC L S M hcl
  obtain ⟨hx, hcc, hr, hml, hts, hown, hlocks, hname, htr, hF, hR, htab⟩ := hC
  unfold am_bi
  split
  · exact as_same (fun r H locs ls hW hS hL hk => lv_iadd hx hcc hd (hk ls hL))
  · trivial

theorem as_isub (hd : decode cc pc = .ok (.isub, 1)) : as_OK Y yn cc mx rt hh pc (am_bi (fun x y => x - y) (pc + 1)) := by
  intro p l e R s m args below meth c G M0 o r0 d hK hC L S M hcl
  obtain ⟨hx, hcc, hr, hml, hts, hown, hlocks, hname, htr, hF, hR, htab⟩ := hC
  unfold am_bi
  split
  · exact as_same (fun r H locs ls hW hS hL hk => lv_isub hx hcc hd (hk ls hL))
  · trivial

theorem as_imul (hd : decode cc pc = .ok (.imul, 1)) : as_OK Y yn cc mx rt hh pc (am_bi (fun x y => x * y) (pc + 1)) := by
  intro p l e R s m args below meth c G M0 o r0 d hK hC L S M hcl
  obtain ⟨hx, hcc, hr, hml, hts, hown, hlocks, hname, htr, hF, hR, htab⟩ := hC
  unfold am_bi
  split
  · exact as_same (fun r H locs ls hW hS hL hk => lv_imul hx hcc hd (hk ls hL))
  · trivial

theorem as_iand (hd : decode cc pc = .ok (.iand, 1)) : as_OK Y yn cc mx rt hh pc (am_bi (fun x y => x &&& y) (pc + 1)) := by
  intro p l e R s m args below meth c G M0 o r0 d hK hC L S M hcl
  obtain ⟨hx, hcc, hr, hml, hts, hown, hlocks, hname, htr, hF, hR, htab⟩ := hC
  unfold am_bi
  split
  · exact as_same (fun r H locs ls hW hS hL hk => lv_iand hx hcc hd (hk ls hL))
  · trivial

theorem as_ior (hd : decode cc pc = .ok (.ior, 1)) : as_OK Y yn cc mx rt hh pc (am_bi (fun x y => x ||| y) (pc + 1)) := by
  intro p l e R s m args below meth c G M0 o r0 d hK hC L S M hcl
  obtain ⟨hx, hcc, hr, hml, hts, hown, hlocks, hname, htr, hF, hR, htab⟩ := hC
  unfold am_bi
  split
  · exact as_same (fun r H locs ls hW hS hL hk => lv_ior hx hcc hd (hk ls hL))
  · trivial

theorem as_ixor (hd : decode cc pc = .ok (.ixor, 1)) : as_OK Y yn cc mx rt hh pc (am_bi (fun x y => x ^^^ y) (pc + 1)) := by
  intro p l e R s m args below meth c G M0 o r0 d hK hC L S M hcl
  obtain ⟨hx, hcc, hr, hml, hts, hown, hlocks, hname, htr, hF, hR, htab⟩ := hC
  unfold am_bi
  split
  · exact as_same (fun r H locs ls hW hS hL hk => lv_ixor hx hcc hd (hk ls hL))
  · trivial

theorem as_ishl (hd : decode cc pc = .ok (.ishl, 1)) : as_OK Y yn cc mx rt hh pc (am_bi (fun x y => x <<< (y &&& 31)) (pc + 1)) := by
  intro p l e R s m args below meth c G M0 o r0 d hK hC L S M hcl
  obtain ⟨hx, hcc, hr, hml, hts, hown, hlocks, hname, htr, hF, hR, htab⟩ := hC
  unfold am_bi
  split
  · exact as_same (fun r H locs ls hW hS hL hk => lv_ishl hx hcc hd (hk ls hL))
  · trivial

theorem as_ishr (hd : decode cc pc = .ok (.ishr, 1)) : as_OK Y yn cc mx rt hh pc (am_bi (fun x y => x >>> (y &&& 31)) (pc + 1)) := by
  intro p l e R s m args below meth c G M0 o r0 d hK hC L S M hcl
  obtain ⟨hx, hcc, hr, hml, hts, hown, hlocks, hname, htr, hF, hR, htab⟩ := hC
  unfold am_bi
  split
  · exact as_same (fun r H locs ls hW hS hL hk => lv_ishr hx hcc hd (hk ls hL))
  · trivial

theorem as_iushr (hd : decode cc pc = .ok (.iushr, 1)) : as_OK Y yn cc mx rt hh pc (am_bi (fun x y => (x.toUInt32 >>> (y.toUInt32 &&& Int32.toUInt32 31)).toInt32) (pc + 1)) := by
  intro p l e R s m args below meth c G M0 o r0 d hK hC L S M hcl
  obtain ⟨hx, hcc, hr, hml, hts, hown, hlocks, hname, htr, hF, hR, htab⟩ := hC
  unfold am_bi
  split
  · exact as_same (fun r H locs ls hW hS hL hk => lv_iushr hx hcc hd rfl (hk ls hL))
  · trivial

theorem as_idiv (hd : decode cc pc = .ok (.idiv, 1)) : as_OK Y yn cc mx rt hh pc (am_bd (fun x y => x / y) (pc + 1)) := by
  intro p l e R s m args below meth c G M0 o r0 d hK hC L S M hcl
  obtain ⟨hx, hcc, hr, hml, hts, hown, hlocks, hname, htr, hF, hR, htab⟩ := hC
  unfold am_bd
  split
  · split
    · trivial
    · rename_i hne
      exact as_same (fun r H locs ls hW hS hL hk => lv_idiv hx hcc hd hne (hk ls hL))
  · trivial

theorem as_irem (hd : decode cc pc = .ok (.irem, 1)) : as_OK Y yn cc mx rt hh pc (am_bd (fun x y => x - x / y * y) (pc + 1)) := by
  intro p l e R s m args below meth c G M0 o r0 d hK hC L S M hcl
  obtain ⟨hx, hcc, hr, hml, hts, hown, hlocks, hname, htr, hF, hR, htab⟩ := hC
  unfold am_bd
  split
  · split
    · trivial
    · rename_i hne
      exact as_same (fun r H locs ls hW hS hL hk => lv_irem hx hcc hd hne (hk ls hL))
  · trivial

theorem as_ldiv (hd : decode cc pc = .ok (.ldiv, 1)) : as_OK Y yn cc mx rt hh pc (am_bld (fun x y => x / y) (pc + 1)) := by
  intro p l e R s m args below meth c G M0 o r0 d hK hC L S M hcl
  obtain ⟨hx, hcc, hr, hml, hts, hown, hlocks, hname, htr, hF, hR, htab⟩ := hC
  unfold am_bld
  split
  · split
    · trivial
    · rename_i hne
      exact as_same (fun r H locs ls hW hS hL hk => lv_ldiv hx hcc hd hne (hk ls hL))
  · trivial

theorem as_lrem (hd : decode cc pc = .ok (.lrem, 1)) : as_OK Y yn cc mx rt hh pc (am_bld (fun x y => x - x / y * y) (pc + 1)) := by
  intro p l e R s m args below meth c G M0 o r0 d hK hC L S M hcl
  obtain ⟨hx, hcc, hr, hml, hts, hown, hlocks, hname, htr, hF, hR, htab⟩ := hC
  unfold am_bld
  split
  · split
    · trivial
    · rename_i hne
      exact as_same (fun r H locs ls hW hS hL hk => lv_lrem hx hcc hd hne (hk ls hL))
  · trivial

theorem as_ineg (hd : decode cc pc = .ok (.ineg, 1)) : as_OK Y yn cc mx rt hh pc (am_ui (fun x => -x) (pc + 1)) := by
  intro p l e R s m args below meth c G M0 o r0 d hK hC L S M hcl
  obtain ⟨hx, hcc, hr, hml, hts, hown, hlocks, hname, htr, hF, hR, htab⟩ := hC
  unfold am_ui
  split
  · exact as_same (fun r H locs ls hW hS hL hk => lv_ineg hx hcc hd (hk ls hL))
  · trivial

theorem as_i2b (hd : decode cc pc = .ok (.i2b, 1)) : as_OK Y yn cc mx rt hh pc (am_ui (fun x => x.toInt8.toInt32) (pc + 1)) := by
  intro p l e R s m args below meth c G M0 o r0 d hK hC L S M hcl
  obtain ⟨hx, hcc, hr, hml, hts, hown, hlocks, hname, htr, hF, hR, htab⟩ := hC
  unfold am_ui
  split
  · exact as_same (fun r H locs ls hW hS hL hk => lv_i2b hx hcc hd rfl (hk ls hL))
  · trivial

theorem as_i2c (hd : decode cc pc = .ok (.i2c, 1)) : as_OK Y yn cc mx rt hh pc (am_ui (fun x => (x.toUInt32 % 65536).toInt32) (pc + 1)) := by
  intro p l e R s m args below meth c G M0 o r0 d hK hC L S M hcl
  obtain ⟨hx, hcc, hr, hml, hts, hown, hlocks, hname, htr, hF, hR, htab⟩ := hC
  unfold am_ui
  split
  · exact as_same (fun r H locs ls hW hS hL hk => lv_i2c hx hcc hd rfl (hk ls hL))
  · trivial

theorem as_i2l (hd : decode cc pc = .ok (.i2l, 1)) : as_OK Y yn cc mx rt hh pc (am_i2l (pc + 1)) := by
  intro p l e R s m args below meth c G M0 o r0 d hK hC L S M hcl
  obtain ⟨hx, hcc, hr, hml, hts, hown, hlocks, hname, htr, hF, hR, htab⟩ := hC
  unfold am_i2l
  split
  · exact as_same (fun r H locs ls hW hS hL hk => lv_i2l hx hcc hd rfl (hk ls hL))
  · trivial

theorem as_l2i (hd : decode cc pc = .ok (.l2i, 1)) : as_OK Y yn cc mx rt hh pc (am_l2i (pc + 1)) := by
  intro p l e R s m args below meth c G M0 o r0 d hK hC L S M hcl
  obtain ⟨hx, hcc, hr, hml, hts, hown, hlocks, hname, htr, hF, hR, htab⟩ := hC
  unfold am_l2i
  split
  · exact as_same (fun r H locs ls hW hS hL hk => lv_l2i hx hcc hd rfl (hk ls hL))
  · trivial

theorem as_ladd (hd : decode cc pc = .ok (.ladd, 1)) : as_OK Y yn cc mx rt hh pc (am_bl (fun x y => x + y) (pc + 1)) := by
  intro p l e R s m args below meth c G M0 o r0 d hK hC L S M hcl
  obtain ⟨hx, hcc, hr, hml, hts, hown, hlocks, hname, htr, hF, hR, htab⟩ := hC
  unfold am_bl
  split
  · exact as_same (fun r H locs ls hW hS hL hk => lv_ladd hx hcc hd (hk ls hL))
  · trivial

theorem as_lsub (hd : decode cc pc = .ok (.lsub, 1)) : as_OK Y yn cc mx rt hh pc (am_bl (fun x y => x - y) (pc + 1)) := by
  intro p l e R s m args below meth c G M0 o r0 d hK hC L S M hcl
  obtain ⟨hx, hcc, hr, hml, hts, hown, hlocks, hname, htr, hF, hR, htab⟩ := hC
  unfold am_bl
  split
  · exact as_same (fun r H locs ls hW hS hL hk => lv_lsub hx hcc hd (hk ls hL))
  · trivial

theorem as_lmul (hd : decode cc pc = .ok (.lmul, 1)) : as_OK Y yn cc mx rt hh pc (am_bl (fun x y => x * y) (pc + 1)) := by
  intro p l e R s m args below meth c G M0 o r0 d hK hC L S M hcl
  obtain ⟨hx, hcc, hr, hml, hts, hown, hlocks, hname, htr, hF, hR, htab⟩ := hC
  unfold am_bl
  split
  · exact as_same (fun r H locs ls hW hS hL hk => lv_lmul hx hcc hd (hk ls hL))
  · trivial

theorem as_lcmp (hd : decode cc pc = .ok (.lcmp, 1)) : as_OK Y yn cc mx rt hh pc (am_lcmp (pc + 1)) := by
  intro p l e R s m args below meth c G M0 o r0 d hK hC L S M hcl
  obtain ⟨hx, hcc, hr, hml, hts, hown, hlocks, hname, htr, hF, hR, htab⟩ := hC
  unfold am_lcmp
  split
  · exact as_same (fun r H locs ls hW hS hL hk => W.lcmp hx hcc hd (hk ls hL))
  · trivial

theorem as_c1 {r : Nat → Nat} {v : Value} (h : am_c1 v = true) : (as_v r v).category = 1 := by
  cases v <;> first | rfl | cases h

theorem as_dup (hd : decode cc pc = .ok (.dup, 1)) : as_OK Y yn cc mx rt hh pc (am_dup (pc + 1)) := by
  intro p l e R s m args below meth c G M0 o r0 d hK hC L S M hcl
  obtain ⟨hx, hcc, hr, hml, hts, hown, hlocks, hname, htr, hF, hR, htab⟩ := hC
  unfold am_dup
  split
  · split
    · rename_i hc
      exact as_same (fun r H locs ls hW hS hL hk => lv_dup hx hcc hd (as_c1 hc) (hk ls hL))
    · trivial
  · trivial

theorem as_pop (hd : decode cc pc = .ok (.pop, 1)) : as_OK Y yn cc mx rt hh pc (am_pop (pc + 1)) := by
  intro p l e R s m args below meth c G M0 o r0 d hK hC L S M hcl
  obtain ⟨hx, hcc, hr, hml, hts, hown, hlocks, hname, htr, hF, hR, htab⟩ := hC
  unfold am_pop
  split
  · split
    · rename_i hc
      exact as_same (fun r H locs ls hW hS hL hk => lv_pop hx hcc hd (as_c1 hc) (hk ls hL))
    · trivial
  · trivial

theorem as_dup_x1 (hd : decode cc pc = .ok (.dup_x1, 1)) : as_OK Y yn cc mx rt hh pc (am_dupx1 (pc + 1)) := by
  intro p l e R s m args below meth c G M0 o r0 d hK hC L S M hcl
  obtain ⟨hx, hcc, hr, hml, hts, hown, hlocks, hname, htr, hF, hR, htab⟩ := hC
  unfold am_dupx1
  split
  · split
    · rename_i hc
      simp only [Bool.and_eq_true] at hc
      exact as_same (fun r H locs ls hW hS hL hk => lv_dup_x1 hx hcc hd (as_c1 hc.1) (as_c1 hc.2) (hk ls hL))
    · trivial
  · trivial

theorem as_dup2 (hd : decode cc pc = .ok (.dup2, 1)) : as_OK Y yn cc mx rt hh pc (am_dup2 (pc + 1)) := by
  intro p l e R s m args below meth c G M0 o r0 d hK hC L S M hcl
  obtain ⟨hx, hcc, hr, hml, hts, hown, hlocks, hname, htr, hF, hR, htab⟩ := hC
  unfold am_dup2
  split
  · split
    · rename_i hc
      simp only [Bool.and_eq_true] at hc
      exact as_same (fun r H locs ls hW hS hL hk => lv_dup2_11 hx hcc hd (as_c1 hc.1) (as_c1 hc.2) (hk ls hL))
    · trivial
  · trivial

theorem as_if_eq {off : Int} (hd : decode cc pc = .ok (.ifCond .eq off, 3)) (ht : (pc : Int) + off = (tgt : Int)) : as_OK Y yn cc mx rt hh pc (am_if 0 tgt (pc + 3)) := by
  intro p l e R s m args below meth c G M0 o r0 d hK hC L S M hcl
  obtain ⟨hx, hcc, hr, hml, hts, hown, hlocks, hname, htr, hF, hR, htab⟩ := hC
  unfold am_if
  split
  · split
    · rename_i hc
      exact as_same (fun r H locs ls hW hS hL hk => lv_if_eq hx hcc hd ht (fun _ => hk ls hL) (fun h => absurd (by simpa [am_cc] using hc) h))
    · rename_i hc
      exact as_same (fun r H locs ls hW hS hL hk => lv_if_eq hx hcc hd ht (fun h => absurd (by simpa [am_cc] using h) hc) (fun _ => hk ls hL))
  · trivial

theorem as_ic_eq {off : Int} (hd : decode cc pc = .ok (.if_icmp .eq off, 3)) (ht : (pc : Int) + off = (tgt : Int)) : as_OK Y yn cc mx rt hh pc (am_ic 0 tgt (pc + 3)) := by
  intro p l e R s m args below meth c G M0 o r0 d hK hC L S M hcl
  obtain ⟨hx, hcc, hr, hml, hts, hown, hlocks, hname, htr, hF, hR, htab⟩ := hC
  unfold am_ic
  split
  · split
    · rename_i hc
      exact as_same (fun r H locs ls hW hS hL hk => lv_icmp_eq hx hcc hd ht (fun _ => hk ls hL) (fun h => absurd (by simpa [am_cc] using hc) h))
    · rename_i hc
      exact as_same (fun r H locs ls hW hS hL hk => lv_icmp_eq hx hcc hd ht (fun h => absurd (by simpa [am_cc] using h) hc) (fun _ => hk ls hL))
  · trivial

theorem as_if_ne {off : Int} (hd : decode cc pc = .ok (.ifCond .ne off, 3)) (ht : (pc : Int) + off = (tgt : Int)) : as_OK Y yn cc mx rt hh pc (am_if 1 tgt (pc + 3)) := by
  intro p l e R s m args below meth c G M0 o r0 d hK hC L S M hcl
  obtain ⟨hx, hcc, hr, hml, hts, hown, hlocks, hname, htr, hF, hR, htab⟩ := hC
  unfold am_if
  split
  · split
    · rename_i hc
      exact as_same (fun r H locs ls hW hS hL hk => lv_if_ne hx hcc hd ht (fun _ => hk ls hL) (fun h => absurd h (by simpa [am_cc] using hc)))
    · rename_i hc
      exact as_same (fun r H locs ls hW hS hL hk => lv_if_ne hx hcc hd ht (fun h => absurd (by simpa [am_cc] using h) hc) (fun _ => hk ls hL))
  · trivial

theorem as_ic_ne {off : Int} (hd : decode cc pc = .ok (.if_icmp .ne off, 3)) (ht : (pc : Int) + off = (tgt : Int)) : as_OK Y yn cc mx rt hh pc (am_ic 1 tgt (pc + 3)) := by
  intro p l e R s m args below meth c G M0 o r0 d hK hC L S M hcl
  obtain ⟨hx, hcc, hr, hml, hts, hown, hlocks, hname, htr, hF, hR, htab⟩ := hC
  unfold am_ic
  split
  · split
    · rename_i hc
      exact as_same (fun r H locs ls hW hS hL hk => lv_icmp_ne hx hcc hd ht (fun _ => hk ls hL) (fun h => absurd h (by simpa [am_cc] using hc)))
    · rename_i hc
      exact as_same (fun r H locs ls hW hS hL hk => lv_icmp_ne hx hcc hd ht (fun h => absurd (by simpa [am_cc] using h) hc) (fun _ => hk ls hL))
  · trivial

theorem as_if_lt {off : Int} (hd : decode cc pc = .ok (.ifCond .lt off, 3)) (ht : (pc : Int) + off = (tgt : Int)) : as_OK Y yn cc mx rt hh pc (am_if 2 tgt (pc + 3)) := by
  intro p l e R s m args below meth c G M0 o r0 d hK hC L S M hcl
  obtain ⟨hx, hcc, hr, hml, hts, hown, hlocks, hname, htr, hF, hR, htab⟩ := hC
  unfold am_if
  split
  · split
    · rename_i hc
      exact as_same (fun r H locs ls hW hS hL hk => lv_if_lt hx hcc hd ht (fun _ => hk ls hL) (fun h => absurd (by simpa [am_cc] using hc) h))
    · rename_i hc
      exact as_same (fun r H locs ls hW hS hL hk => lv_if_lt hx hcc hd ht (fun h => absurd (by simpa [am_cc] using h) hc) (fun _ => hk ls hL))
  · trivial

theorem as_ic_lt {off : Int} (hd : decode cc pc = .ok (.if_icmp .lt off, 3)) (ht : (pc : Int) + off = (tgt : Int)) : as_OK Y yn cc mx rt hh pc (am_ic 2 tgt (pc + 3)) := by
  intro p l e R s m args below meth c G M0 o r0 d hK hC L S M hcl
  obtain ⟨hx, hcc, hr, hml, hts, hown, hlocks, hname, htr, hF, hR, htab⟩ := hC
  unfold am_ic
  split
  · split
    · rename_i hc
      exact as_same (fun r H locs ls hW hS hL hk => lv_icmp_lt hx hcc hd ht (fun _ => hk ls hL) (fun h => absurd (by simpa [am_cc] using hc) h))
    · rename_i hc
      exact as_same (fun r H locs ls hW hS hL hk => lv_icmp_lt hx hcc hd ht (fun h => absurd (by simpa [am_cc] using h) hc) (fun _ => hk ls hL))
  · trivial

theorem as_if_ge {off : Int} (hd : decode cc pc = .ok (.ifCond .ge off, 3)) (ht : (pc : Int) + off = (tgt : Int)) : as_OK Y yn cc mx rt hh pc (am_if 3 tgt (pc + 3)) := by
  intro p l e R s m args below meth c G M0 o r0 d hK hC L S M hcl
  obtain ⟨hx, hcc, hr, hml, hts, hown, hlocks, hname, htr, hF, hR, htab⟩ := hC
  unfold am_if
  split
  · split
    · rename_i hc
      exact as_same (fun r H locs ls hW hS hL hk => lv_if_ge hx hcc hd ht (fun _ => hk ls hL) (fun h => absurd (by simpa [am_cc] using hc) h))
    · rename_i hc
      exact as_same (fun r H locs ls hW hS hL hk => lv_if_ge hx hcc hd ht (fun h => absurd (by simpa [am_cc] using h) hc) (fun _ => hk ls hL))
  · trivial

theorem as_ic_ge {off : Int} (hd : decode cc pc = .ok (.if_icmp .ge off, 3)) (ht : (pc : Int) + off = (tgt : Int)) : as_OK Y yn cc mx rt hh pc (am_ic 3 tgt (pc + 3)) := by
  intro p l e R s m args below meth c G M0 o r0 d hK hC L S M hcl
  obtain ⟨hx, hcc, hr, hml, hts, hown, hlocks, hname, htr, hF, hR, htab⟩ := hC
  unfold am_ic
  split
  · split
    · rename_i hc
      exact as_same (fun r H locs ls hW hS hL hk => lv_icmp_ge hx hcc hd ht (fun _ => hk ls hL) (fun h => absurd (by simpa [am_cc] using hc) h))
    · rename_i hc
      exact as_same (fun r H locs ls hW hS hL hk => lv_icmp_ge hx hcc hd ht (fun h => absurd (by simpa [am_cc] using h) hc) (fun _ => hk ls hL))
  · trivial

theorem as_if_gt {off : Int} (hd : decode cc pc = .ok (.ifCond .gt off, 3)) (ht : (pc : Int) + off = (tgt : Int)) : as_OK Y yn cc mx rt hh pc (am_if 4 tgt (pc + 3)) := by
  intro p l e R s m args below meth c G M0 o r0 d hK hC L S M hcl
  obtain ⟨hx, hcc, hr, hml, hts, hown, hlocks, hname, htr, hF, hR, htab⟩ := hC
  unfold am_if
  split
  · split
    · rename_i hc
      exact as_same (fun r H locs ls hW hS hL hk => lv_if_gt hx hcc hd ht (fun _ => hk ls hL) (fun h => absurd (by simpa [am_cc] using hc) h))
    · rename_i hc
      exact as_same (fun r H locs ls hW hS hL hk => lv_if_gt hx hcc hd ht (fun h => absurd (by simpa [am_cc] using h) hc) (fun _ => hk ls hL))
  · trivial

theorem as_ic_gt {off : Int} (hd : decode cc pc = .ok (.if_icmp .gt off, 3)) (ht : (pc : Int) + off = (tgt : Int)) : as_OK Y yn cc mx rt hh pc (am_ic 4 tgt (pc + 3)) := by
  intro p l e R s m args below meth c G M0 o r0 d hK hC L S M hcl
  obtain ⟨hx, hcc, hr, hml, hts, hown, hlocks, hname, htr, hF, hR, htab⟩ := hC
  unfold am_ic
  split
  · split
    · rename_i hc
      exact as_same (fun r H locs ls hW hS hL hk => lv_icmp_gt hx hcc hd ht (fun _ => hk ls hL) (fun h => absurd (by simpa [am_cc] using hc) h))
    · rename_i hc
      exact as_same (fun r H locs ls hW hS hL hk => lv_icmp_gt hx hcc hd ht (fun h => absurd (by simpa [am_cc] using h) hc) (fun _ => hk ls hL))
  · trivial

theorem as_if_le {off : Int} (hd : decode cc pc = .ok (.ifCond .le off, 3)) (ht : (pc : Int) + off = (tgt : Int)) : as_OK Y yn cc mx rt hh pc (am_if 5 tgt (pc + 3)) := by
  intro p l e R s m args below meth c G M0 o r0 d hK hC L S M hcl
  obtain ⟨hx, hcc, hr, hml, hts, hown, hlocks, hname, htr, hF, hR, htab⟩ := hC
  unfold am_if
  split
  · split
    · rename_i hc
      exact as_same (fun r H locs ls hW hS hL hk => lv_if_le hx hcc hd ht (fun _ => hk ls hL) (fun h => absurd (by simpa [am_cc] using hc) h))
    · rename_i hc
      exact as_same (fun r H locs ls hW hS hL hk => lv_if_le hx hcc hd ht (fun h => absurd (by simpa [am_cc] using h) hc) (fun _ => hk ls hL))
  · trivial

theorem as_ic_le {off : Int} (hd : decode cc pc = .ok (.if_icmp .le off, 3)) (ht : (pc : Int) + off = (tgt : Int)) : as_OK Y yn cc mx rt hh pc (am_ic 5 tgt (pc + 3)) := by
  intro p l e R s m args below meth c G M0 o r0 d hK hC L S M hcl
  obtain ⟨hx, hcc, hr, hml, hts, hown, hlocks, hname, htr, hF, hR, htab⟩ := hC
  unfold am_ic
  split
  · split
    · rename_i hc
      exact as_same (fun r H locs ls hW hS hL hk => lv_icmp_le hx hcc hd ht (fun _ => hk ls hL) (fun h => absurd (by simpa [am_cc] using hc) h))
    · rename_i hc
      exact as_same (fun r H locs ls hW hS hL hk => lv_icmp_le hx hcc hd ht (fun h => absurd (by simpa [am_cc] using h) hc) (fun _ => hk ls hL))
  · trivial

theorem as_goto {off : Int} (hd : decode cc pc = .ok (.goto off, 3)) (ht : (pc : Int) + off = (tgt : Int)) : as_OK Y yn cc mx rt hh pc (am_go tgt) := by
  intro p l e R s m args below meth c G M0 o r0 d hK hC L S M hcl
  obtain ⟨hx, hcc, hr, hml, hts, hown, hlocks, hname, htr, hF, hR, htab⟩ := hC
  exact as_same (fun r H locs ls hW hS hL hk => lv_goto hx hcc hd ht (hk ls hL))

theorem as_ifnull {off : Int} (hd : decode cc pc = .ok (.ifnull off, 3)) (ht : (pc : Int) + off = (tgt : Int)) : as_OK Y yn cc mx rt hh pc (am_nul tgt (pc + 3)) := by
  intro p l e R s m args below meth c G M0 o r0 d hK hC L S M hcl
  obtain ⟨hx, hcc, hr, hml, hts, hown, hlocks, hname, htr, hF, hR, htab⟩ := hC
  unfold am_nul
  split
  · exact as_same (fun r H locs ls hW hS hL hk => lv_ifnullN hx hcc hd ht (hk ls hL))
  · exact as_same (fun r H locs ls hW hS hL hk => lv_ifnull hx hcc hd (hk ls hL))
  · trivial

theorem as_ifnonnull {off : Int} (hd : decode cc pc = .ok (.ifnonnull off, 3)) (ht : (pc : Int) + off = (tgt : Int)) : as_OK Y yn cc mx rt hh pc (am_nul (pc + 3) tgt) := by
  intro p l e R s m args below meth c G M0 o r0 d hK hC L S M hcl
  obtain ⟨hx, hcc, hr, hml, hts, hown, hlocks, hname, htr, hF, hR, htab⟩ := hC
  unfold am_nul
  split
  · exact as_same (fun r H locs ls hW hS hL hk => lv_ifnonnullN hx hcc hd (hk ls hL))
  · exact as_same (fun r H locs ls hW hS hL hk => lv_ifnonnull hx hcc hd ht (hk ls hL))
  · trivial

theorem as_tsw {df lo hi : Int} {offs : Array Int} {len : Nat} {ts : List Nat} {dt : Nat} (hd : decode cc pc = .ok (.tableswitch df lo hi offs, len)) (hdt : (pc : Int) + df = (dt : Int)) (hlen : (ts.length : Int) = hi + 1 - lo) (hts2 : ts.map (fun t : Nat => (t : Int)) = offs.toList.map (fun z => (pc : Int) + z)) : as_OK Y yn cc mx rt hh pc (am_tsw lo ts dt) := by
  intro p l e R s m args below meth c G M0 o r0 d hK hC L S M hcl
  obtain ⟨hx, hcc, hr, hml, hts, hown, hlocks, hname, htr, hF, hR, htab⟩ := hC
  unfold am_tsw
  split
  · rename_i x S'
    refine as_same (fun r H locs ls hW hS hL hk => ?_)
    unfold am_tg at hk
    by_cases h1 : x.toInt < lo
    · rw [if_pos h1] at hk
      exact lv_tableOut hx hcc hd (Or.inl h1) hdt (hk ls hL)
    · rw [if_neg h1] at hk
      by_cases h2 : hi < x.toInt
      · have e0 : ts.getD (x.toInt - lo).toNat dt = dt := by
          rw [List.getD_eq_getElem?_getD, List.getElem?_eq_none (by omega)]; rfl
        rw [e0] at hk
        exact lv_tableOut hx hcc hd (Or.inr h2) hdt (hk ls hL)
      · have hlt : (x.toInt - lo).toNat < ts.length := by omega
        have he := congrArg (fun l => l[(x.toInt - lo).toNat]?) hts2
        simp only [List.getElem?_map] at he
        rw [List.getElem?_eq_getElem hlt] at he
        cases ho : offs.toList[(x.toInt - lo).toNat]? with
        | none => rw [ho] at he; simp at he
        | some z =>
          rw [ho] at he
          simp only [Option.map_some, Option.some.injEq] at he
          have e0 : ts.getD (x.toInt - lo).toNat dt = ts[(x.toInt - lo).toNat] := by
            rw [List.getD_eq_getElem?_getD, List.getElem?_eq_getElem hlt]; rfl
          rw [e0] at hk
          exact lv_tableIn hx hcc hd h1 h2 (by rw [← Array.getElem?_toList]; exact ho) he.symm (hk ls hL)
  · trivial

end ASR
