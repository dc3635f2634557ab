/-! Soundness of AM: calls -/
set_option maxRecDepth 100000
section ASC
variable {p : Program} {l : Launch} {e : Env} {R : Room} {s : State} {m : MethodId} {args : Array Value} {below : List Frame} {meth : Method} {c : Code} {G : as_P} {d : Nat} {M0 : am_M} {o : am_O} {r0 : Nat → Nat} {yn : MethodName} {cc : ByteArray} {mx : Nat} {rt : Option FieldType} {hh : List (Nat × Nat × Nat × Nat)} {Y : Nat → Option as_D} {pc nxt tgt : Nat}
theorem as_called {b : Bool} {L : am_L} {S rest : List Value} {M : am_M} {o' : am_O} {arr : (Nat → Nat) → Array Value} (hcl : am_Cl L S M) (hrest : ∀ v ∈ rest, v ∈ S) (z : as_Z M o')
    (hrun : ∀ (r : Nat → Nat) (H : Heap) (locs : List Loc) (ls : Array Slot), as_W G r M H → va_S (as_A G) s.heap H locs → as_L r ls mx L → (M.1 - M0.1) + (o'.2.1 - M.1) ≤ o.2.1 - M0.1 → (M.2.1 - M0.2.1) + (o'.2.2.1 - M.2.1) ≤ o.2.2.1 - M0.2.1 → vx_Run p l e R s m args below meth c H locs (M.1 - M0.1) (M.2.1 - M0.2.1) (o'.2.1 - M.1) (o'.2.2.1 - M.2.1) (F0 m pc ls (S.map (as_v r))) (rest.map (as_v r)) (as_Qc G M o' r (arr r)) (as_XC G M o' r) (as_A G)) :
    match (generalizing := false) o' with
    | (.inl v, M2) => v.isSome = b → as_J p l e R s m args below meth c G M0 o r0 mx (pc + 3) L (v.toList ++ rest) M2 → as_J p l e R s m args below meth c G M0 o r0 mx pc L S M
    | (.inr q, M2) => as_JX p l e R s m args below meth c G M0 o r0 mx pc L q M2 → as_J p l e R s m args below meth c G M0 o r0 mx pc L S M := by
  obtain ⟨z1, z2, z3⟩ := z
  rcases o' with ⟨v | q, M2⟩
  · intro hb hk
    obtain ⟨⟨k1, k2, k3⟩, hk⟩ := hk
    refine ⟨⟨Nat.le_trans z1 k1, Nat.le_trans z2 k2, Nat.le_trans z3 k3⟩, fun r H locs ls hW hr hS hL hY => ?_⟩
    obtain ⟨y1, y2, y3⟩ := hY
    have z1 : M.1 ≤ M2.1 := z1
    have z2 : M.2.1 ≤ M2.2.1 := z2
    have z3 : am_len M ≤ am_len M2 := z3
    intro T hT X
    rcases hrun r H locs ls hW hS hL (by show _ + (M2.1 - M.1) ≤ _; omega) (by show _ + (M2.2.1 - M.2.1) ≤ _; omega) T hT X with ⟨v', st₀, t, T', L', h0, X', hL', e1, e2, ⟨⟨v2, r2, ho, hW2, hag, hv⟩, hF2⟩, st⟩ | ⟨q, st₀, t, T', L', E, ce, h0, X', hL', e1, e2, ⟨⟨qa, r2, ho, hW2, hag, hqa, hE⟩, hF2⟩, hce, hcv, hcl2, st⟩
    · cases ho
      cases hv
      obtain ⟨s1, s2, s3⟩ := vx_keep h0 e1 hS (fun q _ h => h) (fun q h => h) hL' hF2
      rw [← e1] at hW2
      have w := hk r2 T'.heap (locs ++ L') ls hW2 (fun a ha => (hag a (Nat.lt_of_lt_of_le ha y3)).trans (hr a ha)) s3 (hL.ren (fun k v hkv => as_v_ren (hcl.2.1 k v hkv) hag)) ⟨Nat.le_trans y1 z1, Nat.le_trans y2 z2, Nat.le_trans y3 z3⟩
      have a1 : M2.1 - M0.1 = M.1 - M0.1 + (M2.1 - M.1) := by omega
      have a2 : M2.2.1 - M0.2.1 = M.2.1 - M0.2.1 + (M2.2.1 - M.2.1) := by omega
      rw [a1, a2, List.map_append, as_S_ren (fun v hv => hcl.2.2 v (hrest v hv)) hag] at w
      have a3 : v.toList.map (as_v r2) = (v.map (as_v r2)).toList := by cases v <;> rfl
      rw [a3] at w
      obtain ⟨t2, b1, b2⟩ := w T' rfl X'
      exact ⟨t2, st t2 b1, b2⟩
    · cases ho
  · intro hk
    obtain ⟨⟨k1, k2, k3⟩, hk⟩ := hk
    refine ⟨⟨Nat.le_trans z1 k1, Nat.le_trans z2 k2, Nat.le_trans z3 k3⟩, fun r H locs ls hW hr hS hL hY => ?_⟩
    obtain ⟨y1, y2, y3⟩ := hY
    have z1 : M.1 ≤ M2.1 := z1
    have z2 : M.2.1 ≤ M2.2.1 := z2
    have z3 : am_len M ≤ am_len M2 := z3
    intro T hT X
    rcases hrun r H locs ls hW hS hL (by show _ + (M2.1 - M.1) ≤ _; omega) (by show _ + (M2.2.1 - M.2.1) ≤ _; omega) T hT X with ⟨v', st₀, t, T', L', h0, X', hL', e1, e2, ⟨⟨v2, r2, ho, hW2, hag, hv⟩, hF2⟩, st⟩ | ⟨q2, st₀, t, T', L', E, ce, h0, X', hL', e1, e2, ⟨⟨qa, r2, ho, hW2, hag, hqa, hE⟩, hF2⟩, hce, hcv, hcl2, st⟩
    · cases ho
    · cases ho
      subst hqa
      subst hE
      obtain ⟨s1, s2, s3⟩ := vx_keep h0 e1 hS (fun q _ h => h) (fun q h => h) hL' hF2
      rw [← e1] at hW2 hce
      have w := hk r2 T'.heap (locs ++ L') ls (rest.map (as_v r)) ce hW2 (fun a ha => (hag a (Nat.lt_of_lt_of_le ha y3)).trans (hr a ha)) s3 (hL.ren (fun k v hkv => as_v_ren (hcl.2.1 k v hkv) hag)) ⟨Nat.le_trans y1 z1, Nat.le_trans y2 z2, Nat.le_trans y3 z3⟩ hce hcv hcl2
      have a1 : M2.1 - M0.1 = M.1 - M0.1 + (M2.1 - M.1) := by omega
      have a2 : M2.2.1 - M0.2.1 = M.2.1 - M0.2.1 + (M2.2.1 - M.2.1) := by omega
      rw [a1, a2] at w
      obtain ⟨t2, b1, b2⟩ := w T' rfl X'
      exact ⟨t2, st.trans b1, b2⟩
/-- what a contract starts from, at a call -/
theorem as_blind {r : Nat → Nat} {M : am_M} {av : List Value} : FrameBlind (va_Pc av (fun U => as_W G r M U.heap ∧ as_F G U U.heap)) := fun a U g mk q => by
  obtain ⟨q0, qW, qF⟩ := q
  exact ⟨q0, qW, qF.move (s := U) (U := U.calling g mk a) (State.WarmedH.refl U) (Nat.le_refl _) (fun _ _ _ => rfl)⟩
theorem as_pre {r : Nat → Nat} {M : am_M} {H : Heap} {locs : List Loc} (hF : as_F G s s.heap) (hW : as_W G r M H) (hS : va_S (as_A G) s.heap H locs) (As : List Value) : ∀ U : State, U.heap = H → s.WarmedH U.vm → va_Pc As (fun U => as_W G r M U.heap ∧ as_F G U U.heap) As.toArray U := fun U hU hWm => ⟨rfl, by rw [hU]; exact hW, by rw [hU]; exact hF.move hWm hS.1 hS.2.1⟩
theorem as_stk {S : List Value} {n : Nat} {r : Nat → Nat} : S.map (as_v r) = (((S.take n).reverse).map (as_v r)).reverse ++ (S.drop n).map (as_v r) := by
  rw [← List.map_reverse, List.reverse_reverse, ← List.map_append, List.take_append_drop]
theorem as_stkR {S rest : List Value} {n a : Nat} {r : Nat → Nat} (h : S.drop n = .ref a :: rest) : S.map (as_v r) = (((S.take n).reverse).map (as_v r)).reverse ++ .ref (r a) :: rest.map (as_v r) := by
  rw [as_stk (n := n), h]; rfl
/-- a record's own words -/
def as_mok (y : MethodName) (n : Nat) (mx : Nat) : Prop := (y.cls ≠ "java/lang/invoke/MethodHandle" ∧ y.cls ≠ "java/lang/invoke/VarHandle" ∧ (parseMethodDescriptor y.desc).map (fun d => d.parameters.length) = some n) ∧ mx ≤ 21
theorem as_len_rev {S : List Value} {n : Nat} {r : Nat → Nat} (h : n ≤ S.length) : (((S.take n).reverse).map (as_v r)).length = n := by simp [h]
theorem as_dropn {S rest : List Value} {n : Nat} {v : Value} (h : S.drop n = v :: rest) : n ≤ S.length := by
  rcases Nat.lt_or_ge S.length n with h1 | h1
  · rw [List.drop_eq_nil_of_le (by omega)] at h; cases h
  · exact h1
theorem as_cS {own : String} {index y n : Nat} {y' : MethodName} {b' : ByteArray} {mx' : Nat} {rt' : Option FieldType} (ho : own = yn.cls) (hYy : Y y = some (y', b', mx', rt', [])) (hlink : Cond.methodLink own index y' ∈ lw_all) (hstat : Cond.static y' ∈ lw_all) (hini : Cond.initialized y'.cls ∈ lw_all) (hcode : Cond.code y' b' mx' rt' ∈ lw_all) (hdd : as_mok y' n mx') (b : Bool) (hd : decode cc pc = .ok (.invokestatic index, 3)) : as_OK Y yn cc mx rt hh pc (am_cS y n b (pc + 3)) := by
  intro p l e R s m args below meth c G M0 o r0 d hK hC L S M hcl
  obtain ⟨hx, hcc, hr, hml, hts, hown, hlocks, hname, htr, hF, hR, htab⟩ := hC
  unfold am_cS
  split
  · rename_i hn
    unfold am_cq
    split
    · rename_i hw
      refine ⟨rfl, fun o' ho' => ?_⟩
      obtain ⟨z, hM⟩ := hK y _ hYy _ M o' hcl.1 (fun v hv => hcl.2.2 v (List.mem_of_mem_take (List.mem_reverse.mp hv))) ho'
      refine as_called hcl (fun v hv => List.mem_of_mem_drop hv) z (arr := fun r => (((S.take n).reverse).map (as_v r)).toArray) (fun r H locs ls hW hS hL b1 b2 => ?_)
      exact vx_runS (nL := mx) (own := own) ⟨hx, hcc, hml, by rw [ho]; exact hown, hts⟩ (hM r) (va_cwS n hts (lw_S hlink hstat hini hcode) rfl rfl rfl hdd.1 ⟨hR.1, by have h0 := hR.2.2.2; have := hdd.2; show 8 + (mx' + 11) + (12000 + 40 * d) ≤ R.locals; omega⟩) ⟨as_blind, as_pre hF hW hS _⟩ rfl (as_len_rev hn) hL.2.1 as_stk (lv_room (as_w8 hw)) hd ⟨Nat.le_trans b1 hR.2.1, Nat.le_trans b2 hR.2.2.1⟩
    · trivial
  · trivial
theorem as_cI {own : String} {index y n : Nat} {y' : MethodName} {b' : ByteArray} {mx' : Nat} (ho : own = yn.cls) (hYy : Y y = some (y', b', mx', none, [])) (hnm : y'.name = "<init>") (hlink : Cond.methodLink own index y' ∈ lw_all) (hin : Cond.instanceMethod y' ∈ lw_all) (hini : Cond.initialized y'.cls ∈ lw_all) (hcode : Cond.code y' b' mx' none ∈ lw_all) (hdd : as_mok y' n mx') (hd : decode cc pc = .ok (.invokespecial index, 3)) : as_OK Y yn cc mx rt hh pc (am_cI y n (pc + 3)) := by
  intro p l e R s m args below meth c G M0 o r0 d hK hC L S M hcl
  obtain ⟨hx, hcc, hr, hml, hts, hown, hlocks, hname, htr, hF, hR, htab⟩ := hC
  unfold am_cI
  split
  · rename_i a rest hdr
    unfold am_cq
    split
    · rename_i hw
      refine ⟨rfl, fun o' ho' => ?_⟩
      have hm : ∀ v ∈ Value.ref a :: rest, v ∈ S := fun v hv => List.mem_of_mem_drop (by rw [hdr]; exact hv)
      obtain ⟨z, hM⟩ := hK y _ hYy _ M o' hcl.1 (fun v hv => (List.mem_cons.mp hv).elim (fun e => by rw [e]; exact hcl.2.2 _ (hm _ List.mem_cons_self)) (fun hv => hcl.2.2 v (List.mem_of_mem_take (List.mem_reverse.mp hv)))) ho'
      refine as_called hcl (fun v hv => hm v (List.mem_cons_of_mem _ hv)) z (arr := fun r => (Value.ref (r a) :: ((S.take n).reverse).map (as_v r)).toArray) (fun r H locs ls hW hS hL b1 b2 => ?_)
      exact vx_runI (nL := mx) (own := own) ⟨hx, hcc, hml, by rw [ho]; exact hown, hts⟩ (hM r) (cwI n hts (lw_meth hcode) rfl rfl rfl (hts _ hini) (hts _ hlink) (hts _ hin) hnm hdd.1 ⟨hR.1, by have h0 := hR.2.2.2; have := hdd.2; show 8 + (mx' + 11) + (12000 + 40 * d) ≤ R.locals; omega⟩) ⟨as_blind, as_pre hF hW hS _⟩ rfl (as_len_rev (as_dropn hdr)) hL.2.1 (as_stkR hdr) (lv_room (as_w8 hw)) hd ⟨Nat.le_trans b1 hR.2.1, Nat.le_trans b2 hR.2.2.1⟩
    · trivial
  · trivial
theorem as_cSN {own host : String} {index y n : Nat} {y' : MethodName} {b' : ByteArray} {mx' : Nat} {rt' : Option FieldType} (ho : own = yn.cls) (hYy : Y y = some (y', b', mx', rt', [])) (hlink : (own, index, y', host) ∈ as_nwM) (hstat : Cond.static y' ∈ lw_all) (hini : Cond.initialized y'.cls ∈ lw_all) (hcode : Cond.code y' b' mx' rt' ∈ lw_all) (hdd : as_mok y' n mx') (b : Bool) (hd : decode cc pc = .ok (.invokestatic index, 3)) : as_OK Y yn cc mx rt hh pc (am_cS y n b (pc + 3)) := by
  intro p l e R s m args below meth c G M0 o r0 d hK hC L S M hcl
  obtain ⟨hx, hcc, hr, hml, hts, hown, hlocks, hname, htr, hF, hR, htab⟩ := hC
  unfold am_cS
  split
  · rename_i hn
    unfold am_cq
    split
    · rename_i hw
      refine ⟨rfl, fun o' ho' => ?_⟩
      obtain ⟨z, hM⟩ := hK y _ hYy _ M o' hcl.1 (fun v hv => hcl.2.2 v (List.mem_of_mem_take (List.mem_reverse.mp hv))) ho'
      refine as_called hcl (fun v hv => List.mem_of_mem_drop hv) z (arr := fun r => (((S.take n).reverse).map (as_v r)).toArray) (fun r H locs ls hW hS hL b1 b2 => ?_)
      exact vx_runSN (nL := mx) (own := own) (host := host) ⟨hx, hcc, hml, by rw [ho]; exact hown, hts⟩ (hM r) ⟨va_cnB n hts (lw_meth hcode) rfl rfl rfl (hF.2.2.1 _ hlink) (hts _ hini) hdd.1 ⟨hR.1, by have h0 := hR.2.2.2; have := hdd.2; show 8 + (mx' + 11) + (12000 + 40 * d) ≤ R.locals; omega⟩, hts _ hstat, trivial⟩ ⟨as_blind, as_pre hF hW hS _⟩ rfl (as_len_rev hn) hL.2.1 as_stk (lv_room (as_w8 hw)) hd ⟨Nat.le_trans b1 hR.2.1, Nat.le_trans b2 hR.2.2.1⟩
    · trivial
  · trivial
theorem as_cIN {own host : String} {index y n : Nat} {y' : MethodName} {b' : ByteArray} {mx' : Nat} (ho : own = yn.cls) (hYy : Y y = some (y', b', mx', none, [])) (hnm : y'.name = "<init>") (hlink : (own, index, y', host) ∈ as_nwM) (hin : Cond.instanceMethod y' ∈ lw_all) (hini : Cond.initialized y'.cls ∈ lw_all) (hcode : Cond.code y' b' mx' none ∈ lw_all) (hdd : as_mok y' n mx') (hd : decode cc pc = .ok (.invokespecial index, 3)) : as_OK Y yn cc mx rt hh pc (am_cI y n (pc + 3)) := by
  intro p l e R s m args below meth c G M0 o r0 d hK hC L S M hcl
  obtain ⟨hx, hcc, hr, hml, hts, hown, hlocks, hname, htr, hF, hR, htab⟩ := hC
  unfold am_cI
  split
  · rename_i a rest hdr
    unfold am_cq
    split
    · rename_i hw
      refine ⟨rfl, fun o' ho' => ?_⟩
      have hm : ∀ v ∈ Value.ref a :: rest, v ∈ S := fun v hv => List.mem_of_mem_drop (by rw [hdr]; exact hv)
      obtain ⟨z, hM⟩ := hK y _ hYy _ M o' hcl.1 (fun v hv => (List.mem_cons.mp hv).elim (fun e => by rw [e]; exact hcl.2.2 _ (hm _ List.mem_cons_self)) (fun hv => hcl.2.2 v (List.mem_of_mem_take (List.mem_reverse.mp hv)))) ho'
      refine as_called hcl (fun v hv => hm v (List.mem_cons_of_mem _ hv)) z (arr := fun r => (Value.ref (r a) :: ((S.take n).reverse).map (as_v r)).toArray) (fun r H locs ls hW hS hL b1 b2 => ?_)
      exact vx_runIN (nL := mx) (own := own) (host := host) ⟨hx, hcc, hml, by rw [ho]; exact hown, hts⟩ (hM r) ⟨va_cnB n hts (lw_meth hcode) rfl rfl rfl (hF.2.2.1 _ hlink) (hts _ hini) hdd.1 ⟨hR.1, by have h0 := hR.2.2.2; have := hdd.2; show 8 + (mx' + 11) + (12000 + 40 * d) ≤ R.locals; omega⟩, hnm, hts _ hin⟩ ⟨as_blind, as_pre hF hW hS _⟩ rfl (as_len_rev (as_dropn hdr)) hL.2.1 (as_stkR hdr) (lv_room (as_w8 hw)) hd ⟨Nat.le_trans b1 hR.2.1, Nat.le_trans b2 hR.2.2.1⟩
    · trivial
  · trivial
/-- how a virtual call of x finds the method D in the receiver's class C: its own, a nest mate's private one, one of a class above, one that overrides an abstract one, one with handlers -/
def as_vf (own : String) (index n : Nat) (C : String) (D : as_D) : Prop := as_mok D.1 n D.2.2.1 ∧
  ((D.2.2.2.2 = [] ∧ D.1.cls = C ∧ Cond.methodLink own index D.1 ∈ lw_all ∧ Cond.instanceMethod D.1 ∈ lw_all ∧ Cond.selects C D.1 D.1 ∈ lw_all ∧ Cond.initialized C ∈ lw_all ∧ Cond.code D.1 D.2.1 D.2.2.1 D.2.2.2.1 ∈ lw_all) ∨
   (D.2.2.2.2 = [] ∧ (∃ host, (own, index, D.1, host) ∈ as_nwM) ∧ Cond.instanceMethod D.1 ∈ lw_all ∧ Cond.selects C D.1 D.1 ∈ lw_all ∧ Cond.initialized D.1.cls ∈ lw_all ∧ Cond.code D.1 D.2.1 D.2.2.1 D.2.2.2.1 ∈ lw_all) ∨
   (D.2.2.2.2 = [] ∧ ∃ (x : MethodName) (owner : String), (D.1 = ⟨owner, x.name, x.desc⟩ ∨ (⟨owner, x.name, x.desc⟩ : MethodName) ∈ as_nwD) ∧ (owner ≠ "java/lang/invoke/MethodHandle" ∧ owner ≠ "java/lang/invoke/VarHandle" ∧ (parseMethodDescriptor x.desc).map (fun d => d.parameters.length) = some n) ∧ Cond.methodLink own index x ∈ lw_all ∧ Cond.sameMethod x.cls owner x.name x.desc ∈ lw_all ∧ Cond.selects C x D.1 ∈ lw_all ∧ Cond.instanceMethod D.1 ∈ lw_all ∧ Cond.initialized D.1.cls ∈ lw_all ∧ Cond.code D.1 D.2.1 D.2.2.1 D.2.2.2.1 ∈ lw_all) ∨
   (D.2.2.2.2 ≠ [] ∧ D.1.cls = C ∧ Cond.methodLink own index D.1 ∈ lw_all ∧ Cond.instanceMethod D.1 ∈ lw_all ∧ Cond.selects C D.1 D.1 ∈ lw_all ∧ Cond.initialized C ∈ lw_all ∧ Cond.codeWith D.1 D.2.1 D.2.2.1 D.2.2.2.1 D.2.2.2.2 ∈ lw_all))
theorem as_runv {own C : String} {index n a : Nat} {D : as_D} {S rest : List Value} {M : am_M} {o' : am_O} {r : Nat → Nat} {H : Heap} {locs : List Loc} {ls : Array Slot} {L : am_L} (hx : p.tables.exec = Jvm.exec) (hcc : c.code = cc) (hml : c.maxLocals = mx) (hts : ∀ w ∈ lw_all, w.before args s = true) (hown : s.vm.findClass own = some m.cls) (hF : as_F G s s.heap) (hR : as_R R d M0 o)
    (hvf : as_vf own index n C D) (hM : vx_Met l D.1 (as_ws D.1 D.2.1 D.2.2.1 D.2.2.2.1 D.2.2.2.2) { frames := d + 20, cells := o'.2.1 - M.1, slots := o'.2.2.1 - M.2.1, locals := 12000 + 40 * d } (va_Pc ((Value.ref a :: (S.take n).reverse).map (as_v r)) (fun U => as_W G r M U.heap ∧ as_F G U U.heap)) (as_Qc G M o' r) (as_XC G M o' r) (o'.2.1 - M.1) (o'.2.2.1 - M.2.1) (as_A G))
    (hdr : S.drop n = .ref a :: rest) (hw : am_w8 rest = true) (hcell : ∃ cell : Cell, H[r a]? = some cell ∧ cell.vm.isStatics = false ∧ s.vm.findClass C = some cell.cls) (hW : as_W G r M H) (hS : va_S (as_A G) s.heap H locs) (hL : as_L r ls mx L) (b1 : (M.1 - M0.1) + (o'.2.1 - M.1) ≤ o.2.1 - M0.1) (b2 : (M.2.1 - M0.2.1) + (o'.2.2.1 - M.2.1) ≤ o.2.2.1 - M0.2.1) (hd : decode cc pc = .ok (.invokevirtual index, 3)) :
    vx_Run p l e R s m args below meth c H locs (M.1 - M0.1) (M.2.1 - M0.2.1) (o'.2.1 - M.1) (o'.2.2.1 - M.2.1) (F0 m pc ls (S.map (as_v r))) (rest.map (as_v r)) (as_Qc G M o' r (Value.ref (r a) :: ((S.take n).reverse).map (as_v r)).toArray) (as_XC G M o' r) (as_A G) := by
  obtain ⟨yn', b', mx', rt', hh'⟩ := D
  obtain ⟨hdd, hvf⟩ := hvf
  have hRm : (({ frames := d + 20, cells := o'.2.1 - M.1, slots := o'.2.2.1 - M.2.1, locals := 12000 + 40 * d } : Room).frames + 1 ≤ R.frames) ∧ 8 + (mx' + 11) + ({ frames := d + 20, cells := o'.2.1 - M.1, slots := o'.2.2.1 - M.2.1, locals := 12000 + 40 * d } : Room).locals ≤ R.locals := ⟨hR.1, by have h0 := hR.2.2.2; have := hdd.2; show 8 + (mx' + 11) + (12000 + 40 * d) ≤ R.locals; have h : mx' ≤ 21 := this; omega⟩
  have hPre : PreV s H C (r a) (va_Pc ((Value.ref a :: (S.take n).reverse).map (as_v r)) (fun U => as_W G r M U.heap ∧ as_F G U U.heap)) (((S.take n).reverse).map (as_v r)) := ⟨as_blind, hcell, as_pre hF hW hS _⟩
  have hfit : (M.1 - M0.1) + (o'.2.1 - M.1) ≤ R.cells ∧ (M.2.1 - M0.2.1) + (o'.2.2.1 - M.2.1) ≤ R.slots := ⟨Nat.le_trans b1 hR.2.1, Nat.le_trans b2 hR.2.2.1⟩
  rcases hvf with ⟨e0, e1, h1, h2, h3, h4, h5⟩ | ⟨e0, ⟨host, h1⟩, h2, h3, h4, h5⟩ | ⟨e0, x, owner, h0, h6, h1, h2, h3, h4, h5, h7⟩ | ⟨e0, e1, h1, h2, h3, h4, h5⟩
  · subst e0
    exact vx_runV (nL := mx) (own := own) ⟨hx, hcc, hml, hown, hts⟩ hM (cwV n hts (lw_V h1 h2 h3 h4 h5) rfl rfl rfl ⟨e1, hdd.1⟩ hRm) hPre rfl (as_len_rev (as_dropn hdr)) hL.2.1 (as_stkR hdr) (lv_room (as_w8 hw)) hd hfit
  · subst e0
    exact vx_runVN (nL := mx) (own := own) (host := host) ⟨hx, hcc, hml, hown, hts⟩ hM ⟨va_cnB n hts (lw_meth h5) rfl rfl rfl (hF.2.2.1 _ h1) (hts _ h4) hdd.1 hRm, hts _ h2, hts _ h3⟩ hPre rfl (as_len_rev (as_dropn hdr)) hL.2.1 (as_stkR hdr) (lv_room (as_w8 hw)) hd hfit
  · subst e0
    have hG : GoodIn lw_all (va_wsU own index C owner x yn' (ws_ yn' b' mx' rt')) := by
      refine lw_app (fun w hw => ?_) (lw_meth h7)
      simp only [List.mem_cons, List.not_mem_nil, or_false] at hw
      rcases hw with e | e | e | e | e <;> rw [e] <;> assumption
    rcases h0 with h0 | h0
    · exact vx_runU (nL := mx) (own := own) ⟨hx, hcc, hml, hown, hts⟩ hM (va_cwU n hts hG rfl rfl rfl h0 h6 hRm) hPre rfl (as_len_rev (as_dropn hdr)) hL.2.1 (as_stkR hdr) (lv_room (as_w8 hw)) hd hfit
    · exact vx_runU (nL := mx) (own := own) ⟨hx, hcc, hml, hown, hts⟩ hM (va_cwA n hts hG rfl rfl rfl (hF.2.2.2.2.1 _ h0) h6 hRm) hPre rfl (as_len_rev (as_dropn hdr)) hL.2.1 (as_stkR hdr) (lv_room (as_w8 hw)) hd hfit
  · cases hh' with
    | nil => exact absurd rfl e0
    | cons h t =>
      exact vx_runVX (nL := mx) (own := own) ⟨hx, hcc, hml, hown, hts⟩ hM (vx_cwVW n hts (lw_VW h1 h2 h3 h4 h5) rfl rfl rfl ⟨e1, hdd.1⟩ hRm) hPre rfl (as_len_rev (as_dropn hdr)) hL.2.1 (as_stkR hdr) (lv_room (as_w8 hw)) hd hfit
theorem as_cV {own : String} {index n : Nat} {ys : List (Nat × Nat)} (ho : own = yn.cls) (hys : ∀ q ∈ ys, q.1 < 50 ∧ ∃ (v : vw_C) (D : as_D), as_cl[q.1]? = some v ∧ Y q.2 = some D ∧ as_vf own index n v.1 D) (b : Bool) (hd : decode cc pc = .ok (.invokevirtual index, 3)) : as_OK Y yn cc mx rt hh pc (am_cV ys n b (pc + 3)) := by
  intro p l e R s m args below meth c G M0 o r0 d hK hC L S M hcl
  obtain ⟨hx, hcc, hr, hml, hts, hown, hlocks, hname, htr, hF, hR, htab⟩ := hC
  unfold am_cV
  split
  · rename_i a rest hdr
    split
    · rename_i ci y hfind
      have hmem := List.mem_of_find?_eq_some hfind
      have hci := List.find?_some hfind
      obtain ⟨h50, v, D, hv, hYy, hvf⟩ := hys _ hmem
      unfold am_cq
      split
      · rename_i hw
        refine ⟨rfl, fun o' ho' => ?_⟩
        have hm : ∀ v ∈ Value.ref a :: rest, v ∈ S := fun v hv => List.mem_of_mem_drop (by rw [hdr]; exact hv)
        obtain ⟨z, hM⟩ := hK y _ hYy _ M o' hcl.1 (fun v hv => (List.mem_cons.mp hv).elim (fun e => by rw [e]; exact hcl.2.2 _ (hm _ List.mem_cons_self)) (fun hv => hcl.2.2 v (List.mem_of_mem_take (List.mem_reverse.mp hv)))) ho'
        obtain ⟨fs, he⟩ := am_cls_at (M := M) (a := a) (c := ci) (by simpa using (beq_iff_eq.mp hci).symm) (by have : ci < 50 := h50; omega)
        exact as_called hcl (fun v hv => hm v (List.mem_cons_of_mem _ hv)) z (arr := fun r => (Value.ref (r a) :: ((S.take n).reverse).map (as_v r)).toArray) (fun r H locs ls hW hS hL b1 b2 => as_runv hx hcc hml hts (by rw [ho]; exact hown) hF hR hvf (hM r) hdr hw (as_recv hF hW he h50 hv) hW hS hL b1 b2 hd)
      · trivial
    · trivial
  · trivial
/-- .. of a String -/
theorem as_cVS {own : String} {index n y : Nat} {D : as_D} (ho : own = yn.cls) (hYy : Y y = some D) (hvf : as_vf own index n "java/lang/String" D) (b : Bool) (hd : decode cc pc = .ok (.invokevirtual index, 3)) : as_OK Y yn cc mx rt hh pc (am_cV [(50, y)] n b (pc + 3)) := by
  intro p l e R s m args below meth c G M0 o r0 d hK hC L S M hcl
  obtain ⟨hx, hcc, hr, hml, hts, hown, hlocks, hname, htr, hF, hR, htab⟩ := hC
  unfold am_cV
  split
  · rename_i a rest hdr
    split
    · rename_i ci y2 hfind
      have hmem := List.mem_of_find?_eq_some hfind
      have hci := List.find?_some hfind
      obtain ⟨rfl, rfl⟩ : ci = 50 ∧ y2 = y := by simpa using hmem
      unfold am_cq
      split
      · rename_i hw
        refine ⟨rfl, fun o' ho' => ?_⟩
        have hm : ∀ v ∈ Value.ref a :: rest, v ∈ S := fun v hv => List.mem_of_mem_drop (by rw [hdr]; exact hv)
        obtain ⟨z, hM⟩ := hK _ _ hYy _ M o' hcl.1 (fun v hv => (List.mem_cons.mp hv).elim (fun e => by rw [e]; exact hcl.2.2 _ (hm _ List.mem_cons_self)) (fun hv => hcl.2.2 v (List.mem_of_mem_take (List.mem_reverse.mp hv)))) ho'
        obtain ⟨fs, he⟩ := am_cls_at (M := M) (a := a) (c := 50) (by simpa using (beq_iff_eq.mp hci).symm) (by omega)
        refine as_called hcl (fun v hv => hm v (List.mem_cons_of_mem _ hv)) z (arr := fun r => (Value.ref (r a) :: ((S.take n).reverse).map (as_v r)).toArray) (fun r H locs ls hW hS hL b1 b2 => as_runv hx hcc hml hts (by rw [ho]; exact hown) hF hR hvf (hM r) hdr hw ?_ hW hS hL b1 b2 hd)
        have ha : a < 100 := by
          rcases Nat.lt_or_ge a 100 with h | h
          · exact h
          · rcases hW.2.2.2.2.2.2 a _ h he with z | z <;> cases z
        have hf := hW.2.2.2.1 a ha
        rw [he] at hf
        obtain ⟨i, hi, e2⟩ := (hF.2.2.2.2.2.2.2.1.2.1 a _ hf.symm).2 rfl
        subst e2
        rw [hW.2.2.1 _ ha]
        obtain ⟨-, -, f3, -⟩ := hF.2.2.2.2.2.2.2.2.2.2.2.2.1 i hi
        obtain ⟨cell, c1, c2, c3, -⟩ := f3.kept hS.2.1
        exact ⟨cell, c1, c2, c3⟩
      · trivial
    · trivial
  · trivial
end ASC
