/-! Soundness of AM: new things, ends, references into arrays, constants, strings -/
set_option maxRecDepth 100000
theorem as_RA_eq {s : State} {c1 c2 : ClassId} {ty : FieldType} (h1 : va_RA s c1 ty) (h2 : va_RA s c2 ty) : c1 = c2 := by
  cases ty with
  | object C =>
    obtain ⟨_, _, _, _, _, e1⟩ := h1
    obtain ⟨_, _, _, _, _, e2⟩ := h2
    exact Option.some.inj (e1.symm.trans e2)
  | _ => exact Option.some.inj (Eq.trans (Eq.symm h1) h2)
theorem as_w8 {r : Nat → Nat} {S : List Value} (h : am_w8 S = true) : ((S.map (as_v r)).map fun v => v.category).sum ≤ 8 := by
  have h1 := of_decide_eq_true h
  rw [List.map_map]
  have e : ((fun v : Value => v.category) ∘ as_v r) = fun v : Value => v.category := by
    funext v
    exact as_v_cat r v
  rw [e]
  exact h1
theorem as_ne {G : as_P} {U : State} {r : Nat → Nat} {M : am_M} {H H' : Heap} {x y : Nat} (hF : as_F G U H') (hW : as_W G r M H) (hx : x < am_len M) (hy : y < am_len M) (hc : ((decide (100 ≤ x) || decide (100 ≤ y)) && !decide (am_cls M x = 60) && !decide (am_cls M y = 60)) = true) (h : r x = r y) : x = y := by
  simp only [Bool.and_eq_true, Bool.or_eq_true, decide_eq_true_eq, Bool.not_eq_true', decide_eq_false_iff_not] at hc
  obtain ⟨⟨h1, h2⟩, h3⟩ := hc
  have hex : ∀ z, z < am_len M → ∃ e, am_at M z = some e := fun z hz => ⟨_, List.getElem?_eq_getElem hz⟩
  obtain ⟨e1, he1⟩ := hex x hx
  obtain ⟨e2, he2⟩ := hex y hy
  have k1 : as_real e1 = true ∨ (x < 100 ∧ e1 ≠ .inr (60, [])) := by
    rcases Nat.lt_or_ge x 100 with z | z
    · exact Or.inr ⟨z, fun w => absurd (by simp [am_cls, he1, w]) h2⟩
    · rcases hW.2.2.2.2.2.2 x e1 z he1 with w | w
      · exact Or.inl w
      · subst w
        exact absurd (by simp [am_cls, he1]) h2
  have k2 : as_real e2 = true ∨ (y < 100 ∧ e2 ≠ .inr (60, [])) := by
    rcases Nat.lt_or_ge y 100 with z | z
    · exact Or.inr ⟨z, fun w => absurd (by simp [am_cls, he2, w]) h3⟩
    · rcases hW.2.2.2.2.2.2 y e2 z he2 with w | w
      · exact Or.inl w
      · subst w
        exact absurd (by simp [am_cls, he2]) h3
  rcases h1 with h1 | h1
  · rcases k1 with k1 | k1
    · exact hW.2.1 x y e1 e2 he1 k1 he2 k2 h
    · exact absurd k1.1 (by omega)
  · rcases k2 with k2 | k2
    · exact (hW.2.1 y x e2 e1 he2 k2 he1 k1 h.symm).symm
    · exact absurd k2.1 (by omega)
section ASN
variable {p : Program} {l : Launch} {e : Env} {R : Room} {s : State} {m : MethodId} {args : Array Value} {below : List Frame} {meth : Method} {c : Code} {G : as_P} {d : Nat} {M0 : am_M} {o : am_O} {r0 : Nat → Nat} {yn : MethodName} {cc : ByteArray} {mx : Nat} {rt : Option FieldType} {hh : List (Nat × Nat × Nat × Nat)} {Y : Nat → Option as_D} {pc nxt tgt : Nat}
/-- behind a thing made -/
theorem as_made {L : am_L} {S S' : List Value} {M : am_M} {nx n : Nat} {e1 : am_E} (hF : as_F G s s.heap) (hcl : am_Cl L S M) (hS' : ∀ v ∈ S', v ∈ S) (h1 : as_real e1 = true) (hce : am_cE (am_len M) e1) (hR : as_R R d M0 o)
    (h : ∀ (r : Nat → Nat) (H : Heap) (locs : List Loc) (ls : Array Slot) (ws : va_W), va_P G.1 as_cl ws H → va_D (as_A G) ws → va_S (as_A G) s.heap H locs → va_S (as_A G) H H locs → (M.1 - M0.1) + 1 ≤ R.cells → (M.2.1 - M0.2.1) + n ≤ R.slots → (∀ q, H.size ≤ q → as_A G q) → (∀ (q : Nat) (H1 : Heap), va_P G.1 as_cl (ws ++ [(q, as_e G.2.1 r e1)]) H1 → va_D (as_A G) (ws ++ [(q, as_e G.2.1 r e1)]) → va_S (as_A G) H H1 locs → W p l e R s m args below meth c H1 locs (M.1 - M0.1 + 1) (M.2.1 - M0.2.1 + n) (as_Q p l e R s m args below meth c G M0 o r0) (F0 m nx ls (.ref q :: S'.map (as_v r)))) → W p l e R s m args below meth c H locs (M.1 - M0.1) (M.2.1 - M0.2.1) (as_Q p l e R s m args below meth c G M0 o r0) (F0 m pc ls (S.map (as_v r)))) :
    as_J p l e R s m args below meth c G M0 o r0 mx nx L (.ref (am_len M) :: S') (am_new M n e1) → as_J p l e R s m args below meth c G M0 o r0 mx pc L S M := by
  intro hk
  obtain ⟨⟨z1, z2, z3⟩, hk⟩ := hk
  have z1 : M.1 + 1 ≤ o.2.1 := z1
  have z2 : M.2.1 + n ≤ o.2.2.1 := z2
  rw [am_len_new] at z3
  refine ⟨⟨by omega, by omega, by omega⟩, fun r H locs ls hW hr hS hL hY => ?_⟩
  obtain ⟨ws, hP, hD, hcov⟩ := hW.1
  have y1 := hY.1
  have y2 := hY.2.1
  have y3 := hY.2.2
  have hge : ∀ q, H.size ≤ q → as_A G q := fun q hq => Nat.le_trans hF.2.2.2.2.2.2.1 (Nat.le_trans hS.1 hq)
  refine h r H locs ls ws hP hD hS (as_S0 hS) (by have h0 := hR.2.1; show _ ≤ R.cells; omega) (by have h0 := hR.2.2.1; show _ ≤ R.slots; omega) hge (fun q H1 hP1 hD1 hS1 => ?_)
  have hren : ∀ a, a < am_len M → (if a = am_len M then q else r a) = r a := fun a ha => if_neg (by omega)
  have k1 := hk (fun b => if b = am_len M then q else r b) H1 locs ls (as_new hF hcl.1 hW h1 hce hcov hP1 hD1) (fun a ha => by show (if a = am_len M then q else r a) = r0 a; rw [hren a (by omega)]; exact hr a ha) (as_S2 hS hS1) (hL.ren (fun k v hkv => as_v_ren (hcl.2.1 k v hkv) hren)) ⟨by show M0.1 ≤ M.1 + 1; omega, by show M0.2.1 ≤ M.2.1 + n; omega, by rw [am_len_new]; omega⟩
  have f1 : (am_new M n e1).1 - M0.1 = M.1 - M0.1 + 1 := by show M.1 + 1 - M0.1 = _; omega
  have f2 : (am_new M n e1).2.1 - M0.2.1 = M.2.1 - M0.2.1 + n := by show M.2.1 + n - M0.2.1 = _; omega
  rw [f1, f2, List.map_cons, as_S_ren (fun v hv => hcl.2.2 v (hS' v hv)) hren] at k1
  have e3 : as_v (fun b => if b = am_len M then q else r b) (.ref (am_len M)) = .ref q := congrArg Value.ref (if_pos rfl)
  rw [e3] at k1
  exact k1
theorem as_newo {C own : String} {T0 : u_T} {N index ci : Nat} {fs : List Value} (ho : own = yn.cls) (h50 : ci < 50) (hc : as_cl[ci]? = some (C, T0, N)) (hin : ∀ w ∈ u_ws C T0 N, w ∈ lw_all) (ty : Nat → FieldType) (hty : ∀ k, k < N → parseFieldDescriptor (T0 k).2.2.1 = some (ty k)) (hlink : Cond.classLink own index C ∈ lw_all) (hinst : Cond.instantiable C N ∈ lw_all) (hini : Cond.initialized C ∈ lw_all) (hlen : fs.length = N) (hfs : ∀ j, j < N → defaultValue (ty j) = vp_V fs j) (hnr : fs.all (fun v => match v with | .ref _ => false | _ => true) = true) (hd : decode cc pc = .ok (.new index, 3)) : as_OK Y yn cc mx rt hh pc (am_no ci fs (pc + 3)) := by
  intro p l e R s m args below meth c G M0 o r0 d hK hC L S M hcl
  obtain ⟨hx, hcc, hr, hml, hts, hown, hlocks, hname, htr, hF, hR, htab⟩ := hC
  have hcv : ∀ (N : Nat) (v : Value), v ∈ fs → am_cv N v := fun N v hv a e => by
    subst e
    have := List.all_eq_true.mp hnr _ hv
    cases this
  have hfr : ∀ r : Nat → Nat, fs.map (as_v r) = fs := fun r => by
    have h := as_S_ren (r := id) (r' := r) (N := 0) (fun v hv => hcv 0 v hv) (fun a ha => absurd ha (Nat.not_lt_zero a))
    rw [h]
    have : as_v id = id := by funext v; cases v <;> rfl
    rw [this, List.map_id]
  refine as_made hF hcl (fun v hv => hv) (by simp [as_real, h50]) (fun v hv => hcv _ v hv) hR (fun r H locs ls ws hP hD hS hS0 hc1 hc2 hge hk => ?_)
  refine va_new (fs := fs) hx hcc hts hin ty hty (by rw [ho]; exact hown) (hts _ hlink) (hts _ hinst) (hts _ hini) hF.1 hP hD hS0 hge hc hfs hc1 (by rw [← hlen]; exact hc2) hd (fun q H1 hP1 hD1 hS1 => ?_)
  have he : as_e G.2.1 r (.inr (ci, fs)) = .inr (ci, fs) := by
    show Sum.inr (ci, fs.map (as_v r)) = _
    rw [hfr r]
  have hk2 := hk q H1 (by rw [he]; exact hP1) (by rw [he]; exact hD1) hS1
  rw [hlen] at hk2
  exact hk2
theorem as_newa {atype : ArrayType} {t : Nat} {ty : FieldType} (hty : newarray.typeOf atype = ty) (harr : Cond.arrayClass ty ∈ lw_all) (htt : ∀ dA, (as_tys dA)[t]? = some (dA t, ty)) (hz : ∀ (n : Nat) (cA : ClassId), vp_cell cA (am_zero t n) = arrV cA n (fun _ => defaultValue ty)) (hx0 : ∀ (n : Nat) (r : Nat → Nat), as_x r (am_zero t n) = am_zero t n) (hcz : ∀ n N, am_cE N (.inl (t, am_zero t n))) (hcb : componentBytes ty ≤ 8) (ht9 : t < 9) (hd : decode cc pc = .ok (.newarray atype, 2)) : as_OK Y yn cc mx rt hh pc (am_na t (pc + 2)) := by
  intro p l e R s m args below meth c G M0 o r0 d hK hC L S M hcl
  obtain ⟨hx, hcc, hr, hml, hts, hown, hlocks, hname, htr, hF, hR, htab⟩ := hC
  unfold am_na
  split
  · rename_i n S'
    split
    · trivial
    · rename_i hcon
      simp only [Bool.or_eq_true, decide_eq_true_eq, not_or] at hcon
      refine as_made hF hcl (fun v hv => List.mem_cons_of_mem _ hv) (by simp [as_real, ht9]) (hcz _ _) hR (fun r H locs ls ws hP hD hS hS0 hc1 hc2 hge hk => ?_)
      refine va_newa (a0 := am_zero t n.toNatClampNeg) hx hcc (by rw [hty]; exact hts _ harr) hty hF.1 hP hD hS0 hge (hz _) hcon.1 rfl ?_ hc1 hc2 hd (fun q cA H1 hK1 hP1 hD1 hS1 => ?_)
      · have : n.toNatClampNeg * componentBytes ty ≤ 65536 * 8 := Nat.mul_le_mul (by omega) hcb
        omega
      · have e1 : va_RA s cA ty := (hK1.2 (as_tys G.2.1).length (cA, ty) (by rw [List.getElem?_append_right (Nat.le_refl _)]; simp)).2
        have e2 : va_RA s (G.2.1 t) ty := (hF.1.2 t _ (htt _)).2
        have e3 := as_RA_eq e1 e2
        subst e3
        have he : as_e G.2.1 r (.inl (t, am_zero t n.toNatClampNeg)) = .inl (G.2.1 t, am_zero t n.toNatClampNeg) := by
          show Sum.inl (G.2.1 t, as_x r (am_zero t n.toNatClampNeg)) = _
          rw [hx0]
        exact hk q H1 (by rw [he]; exact hP1) (by rw [he]; exact hD1) hS1
  · trivial
theorem as_newq {C own : String} {index t : Nat} (ho : own = yn.cls) (hlink : Cond.classLink own index C ∈ lw_all) (hao : C ∈ as_ao) (htt : ∀ dA, (as_tys dA)[t]? = some (dA t, .object C)) (h4 : 4 ≤ t) (ht9 : t < 9) (hd : decode cc pc = .ok (.anewarray index, 3)) : as_OK Y yn cc mx rt hh pc (am_na t (pc + 3)) := by
  intro p l e R s m args below meth c G M0 o r0 d hK hC L S M hcl
  obtain ⟨hx, hcc, hr, hml, hts, hown, hlocks, hname, htr, hF, hR, htab⟩ := hC
  have hzz : ∀ n, am_zero t n = (n, .inr (.inr (.inr (.inr (fun _ => none))))) := fun n => by
    unfold am_zero
    rw [if_neg (by omega), if_neg (by omega)]
  unfold am_na
  split
  · rename_i n S'
    split
    · trivial
    · rename_i hcon
      simp only [Bool.or_eq_true, decide_eq_true_eq, not_or] at hcon
      rw [hzz]
      refine as_made hF hcl (fun v hv => List.mem_cons_of_mem _ hv) (by simp [as_real, ht9]) (fun f hf k b hb => by cases hf; cases hb) hR (fun r H locs ls ws hP hD hS hS0 hc1 hc2 hge hk => ?_)
      refine va_newq hx hcc (by rw [ho]; exact hown) (hts _ hlink) (hF.2.2.2.2.2.1 _ hao) hF.1 hP hD hS0 hge hcon.1 rfl ?_ hc1 hc2 hd (fun q cA H1 hK1 hP1 hD1 hS1 => ?_)
      · omega
      · have e1 : va_RA s cA (.object C) := (hK1.2 (as_tys G.2.1).length (cA, .object C) (by rw [List.getElem?_append_right (Nat.le_refl _)]; simp)).2
        have e2 : va_RA s (G.2.1 t) (.object C) := (hF.1.2 t _ (htt _)).2
        have e3 := as_RA_eq e1 e2
        subst e3
        exact hk q H1 hP1 hD1 hS1
  · trivial
theorem as_recv {r : Nat → Nat} {M : am_M} {H : Heap} {a ci : Nat} {fs : List Value} {q : vw_C} (hF : as_F G s s.heap) (hW : as_W G r M H) (he : am_at M a = some (.inr (ci, fs))) (h50 : ci < 50) (hc : as_cl[ci]? = some q) : ∃ cell : Cell, H[r a]? = some cell ∧ cell.vm.isStatics = false ∧ s.vm.findClass q.1 = some cell.cls := by
  obtain ⟨ws, q0, hP, hD, hq, -⟩ := hW.cell he (by simp [as_real, h50])
  exact va_recv hF.1 hP hc hq
theorem am_cls_at {M : am_M} {a c : Nat} (h : am_cls M a = c) (hc : c < 1000) : ∃ fs, am_at M a = some (.inr (c, fs)) := by
  unfold am_cls at h
  split at h
  · rename_i c' fs he
    subst h
    exact ⟨fs, he⟩
  · omega
theorem as_cast {own : String} {index ci : Nat} {q : vw_C} (ho : own = yn.cls) (h50 : ci < 50) (hc : as_cl[ci]? = some q) (hlink : Cond.classLink own index q.1 ∈ lw_all) (hd : decode cc pc = .ok (.checkcast index, 3)) : as_OK Y yn cc mx rt hh pc (am_cast [ci] (pc + 3)) := by
  intro p l e R s m args below meth c G M0 o r0 d hK hC L S M hcl
  obtain ⟨hx, hcc, hr, hml, hts, hown, hlocks, hname, htr, hF, hR, htab⟩ := hC
  unfold am_cast
  split
  · split
    · rename_i hcon
      obtain ⟨fs, he⟩ := am_cls_at (c := ci) (by simpa using hcon) (by omega)
      exact as_same (fun r H locs ls hW hS hL hk => va_castS hx hcc (by rw [ho]; exact hown) (hts _ hlink) (hF.1.1 ci q hc).2 (as_recv hF hW he h50 hc) hd (hk ls hL))
    · trivial
  · trivial
/-- the ends -/
theorem as_end {v : Option Value} {pc : Nat} {S : List Value} {L : am_L} {M : am_M} (h : ∀ (r : Nat → Nat) (H : Heap) (locs : List Loc) (ls : Array Slot), (∀ t : State, t.heap = H → s.WarmedH t.vm → as_Qc G M0 o r0 args s (.returned (v.map (as_v r))) t) → (∀ q ∈ locs, as_A G q.base) → W p l e R s m args below meth c H locs (M.1 - M0.1) (M.2.1 - M0.2.1) (MQ below (as_Qc G M0 o r0) args s (M.1 - M0.1) (M.2.1 - M0.2.1) (as_A G)) (F0 m pc ls (S.map (as_v r)))) : o = (.inl v, M) → as_J p l e R s m args below meth c G M0 o r0 mx pc L S M := by
  intro ho
  subst ho
  refine ⟨⟨Nat.le_refl _, Nat.le_refl _, Nat.le_refl _⟩, fun r H locs ls hW hr hS hL hY => ?_⟩
  exact vx_ret (h r H locs ls (fun t ht hWm => ⟨⟨v, r, rfl, by rw [ht]; exact hW, hr, rfl⟩, hS.F ht⟩) hS.2.2)
theorem as_vret (hrt : rt = none) (hd : decode cc pc = .ok (.return_, 1)) : as_OK Y yn cc mx rt hh pc am_vret := by
  intro p l e R s m args below meth c G M0 o r0 d hK hC L S M hcl
  obtain ⟨hx, hcc, hr, hml, hts, hown, hlocks, hname, htr, hF, hR, htab⟩ := hC
  unfold am_vret
  split
  · exact as_end (fun r H locs ls hq hf => W.vret hx hcc (hr.trans hrt) hq hf hd)
  · trivial
theorem as_iret (hrt : rt = some .int) (hd : decode cc pc = .ok (.ireturn, 1)) : as_OK Y yn cc mx rt hh pc (am_rt 0) := by
  intro p l e R s m args below meth c G M0 o r0 d hK hC L S M hcl
  obtain ⟨hx, hcc, hr, hml, hts, hown, hlocks, hname, htr, hF, hR, htab⟩ := hC
  unfold am_rt
  split
  · rename_i v
    split
    · rename_i hf0
      cases v <;> simp [am_fit] at hf0
      exact as_end (fun r H locs ls hq hf => W.iret hx hcc (hr.trans hrt) hq hf hd)
    · trivial
  · trivial
theorem as_zret (hrt : rt = some .boolean) (hd : decode cc pc = .ok (.ireturn, 1)) : as_OK Y yn cc mx rt hh pc (am_rt 1) := by
  intro p l e R s m args below meth c G M0 o r0 d hK hC L S M hcl
  obtain ⟨hx, hcc, hr, hml, hts, hown, hlocks, hname, htr, hF, hR, htab⟩ := hC
  unfold am_rt
  split
  · rename_i v
    split
    · rename_i hf0
      cases v <;> simp [am_fit] at hf0
      exact as_end (fun r H locs ls hq hf => W.zret hx hcc (hr.trans hrt) (by rcases hf0 with rfl | rfl <;> rfl) hq hf hd)
    · trivial
  · trivial
theorem as_bret (hrt : rt = some .byte) (hd : decode cc pc = .ok (.ireturn, 1)) : as_OK Y yn cc mx rt hh pc (am_rt 4) := by
  intro p l e R s m args below meth c G M0 o r0 d hK hC L S M hcl
  obtain ⟨hx, hcc, hr, hml, hts, hown, hlocks, hname, htr, hF, hR, htab⟩ := hC
  unfold am_rt
  split
  · rename_i v
    split
    · rename_i hf0
      cases v <;> simp [am_fit] at hf0
      exact as_end (fun r H locs ls hq hf => W.zret hx hcc (hr.trans hrt) (by rw [narrow_byte, hf0]) hq hf hd)
    · trivial
  · trivial
theorem as_cret (hrt : rt = some .char) (hd : decode cc pc = .ok (.ireturn, 1)) : as_OK Y yn cc mx rt hh pc (am_rt 5) := by
  intro p l e R s m args below meth c G M0 o r0 d hK hC L S M hcl
  obtain ⟨hx, hcc, hr, hml, hts, hown, hlocks, hname, htr, hF, hR, htab⟩ := hC
  unfold am_rt
  split
  · rename_i v
    split
    · rename_i hf0
      cases v <;> simp [am_fit] at hf0
      exact as_end (fun r H locs ls hq hf => W.zret hx hcc (hr.trans hrt) (by rw [← hf0]; exact pk_nc _) hq hf hd)
    · trivial
  · trivial
theorem as_lret (hrt : rt = some .long) (hd : decode cc pc = .ok (.lreturn, 1)) : as_OK Y yn cc mx rt hh pc (am_rt 2) := by
  intro p l e R s m args below meth c G M0 o r0 d hK hC L S M hcl
  obtain ⟨hx, hcc, hr, hml, hts, hown, hlocks, hname, htr, hF, hR, htab⟩ := hC
  unfold am_rt
  split
  · rename_i v
    split
    · rename_i hf0
      cases v <;> simp [am_fit] at hf0
      exact as_end (fun r H locs ls hq hf => W.lret hx hcc (hr.trans hrt) hq hf hd)
    · trivial
  · trivial
theorem as_aret {t : FieldType} (hrt : rt = some t) (ht : (∃ n, t = .object n) ∨ ∃ z, t = .array z) (hd : decode cc pc = .ok (.areturn, 1)) : as_OK Y yn cc mx rt hh pc (am_rt 3) := by
  intro p l e R s m args below meth c G M0 o r0 d hK hC L S M hcl
  obtain ⟨hx, hcc, hr, hml, hts, hown, hlocks, hname, htr, hF, hR, htab⟩ := hC
  unfold am_rt
  split
  · rename_i v
    split
    · rename_i hf0
      cases v <;> simp [am_fit] at hf0
      · exact as_end (fun r H locs ls hq hf => W.aret hx hcc (hr.trans hrt) ht (Or.inl rfl) hq hf hd)
      · exact as_end (fun r H locs ls hq hf => W.aret hx hcc (hr.trans hrt) ht (Or.inr ⟨_, rfl⟩) hq hf hd)
    · trivial
  · trivial
theorem as_thr (hd : decode cc pc = .ok (.athrow, 1)) : as_OK Y yn cc mx rt hh pc am_thr := by
  intro p l e R s m args below meth c G M0 o r0 d hK hC L S M hcl
  obtain ⟨hx, hcc, hr, hml, hts, hown, hlocks, hname, htr, hF, hR, htab⟩ := hC
  unfold am_thr
  split
  · rename_i q S'
    split
    · rename_i hc8
      intro hk
      refine ⟨hk.1, fun r H locs ls hW hr hS hL hY => ?_⟩
      obtain ⟨fs, he⟩ := am_cls_at hc8 (by omega)
      obtain ⟨ws, q0, hP, hD, hq, -⟩ := hW.cell he rfl
      obtain ⟨z, w1, cell, q1, q2, q3, q4⟩ := hP q0 _ hq
      cases w1
      refine vx_athrow hx hcc hd (hk.2 r H locs ls _ cell hW hr hS hL hY q1 q3 ?_)
      rw [hc8, q2]
      exact (hF.1.1 8 _ rfl).2.1
    · trivial
  · trivial
theorem as_oi {own : String} {index : Nat} (ho : own = yn.cls) (hlink : Cond.methodLink own index Lib.objectInit ∈ lw_all) (h1 : Cond.instanceMethod Lib.objectInit ∈ lw_all) (h2 : Cond.code Lib.objectInit ⟨#[0xb1]⟩ 1 none ∈ lw_all) (hd : decode cc pc = .ok (.invokespecial index, 3)) : as_OK Y yn cc mx rt hh pc (am_oi (pc + 3)) := by
  intro p l e R s m args below meth c G M0 o r0 d hK hC L S M hcl
  obtain ⟨hx, hcc, hr, hml, hts, hown, hlocks, hname, htr, hF, hR, htab⟩ := hC
  unfold am_oi
  split
  · split
    · rename_i hw
      exact as_same (fun r H locs ls hW hS hL hk => W.objInit hx hcc (by rw [ho]; exact hown) (hts _ hlink) (hts _ h1) (hts _ h2) rfl (by rw [hml]; exact hL.2.1) rfl hd (by have h0 := hR.1; omega) (by have := as_w8 (r := r) hw; have h0 := hR.2.2.2; show 2 * 0 + _ + 12 ≤ R.locals; omega) (hk ls hL))
    · trivial
  · trivial
theorem as_tyC {dA : Nat → ClassId} {t : Nat} (h : t < 9) : ∃ ty, (as_tys dA)[t]? = some (dA t, ty) := by
  rcases t with _ | _ | _ | _ | _ | _ | _ | _ | _ | t
  all_goals first | exact ⟨_, rfl⟩ | omega
theorem as_len_ok (hd : decode cc pc = .ok (.arraylength, 1)) : as_OK Y yn cc mx rt hh pc (am_len_ (pc + 1)) := by
  intro p l e R s m args below meth c G M0 o r0 d hK hC L S M hcl
  obtain ⟨hx, hcc, hr, hml, hts, hown, hlocks, hname, htr, hF, hR, htab⟩ := hC
  unfold am_len_
  split
  · rename_i a S'
    split
    · rename_i n hn
      unfold am_al at hn
      split at hn
      · rename_i t k x he
        cases hn
        refine as_same (fun r H locs ls hW hS hL hk => ?_)
        by_cases ht : t < 9
        · obtain ⟨ws, q0, hP, hD, hq, -⟩ := hW.cell he (by simp [as_real, ht])
          obtain ⟨ty, hty⟩ := as_tyC (dA := G.2.1) ht
          exact va_alen hx hcc hF.1 hP q0 t hq hty rfl hd (hk ls hL)
        · have ha : a < 100 := by
            rcases Nat.lt_or_ge a 100 with h | h
            · exact h
            · rcases hW.2.2.2.2.2.2 a _ h he with z | z
              · simp [as_real] at z; omega
              · cases z
          have hf := hW.2.2.2.1 a ha
          rw [he] at hf
          have hfk := (hF.2.2.2.2.2.2.2.1.2.1 a _ hf.symm).2
          rw [List.map_cons]
          show W p l e R s m args below meth c H locs _ _ _ (F0 m pc ls (.ref (r a) :: _))
          rw [hW.2.2.1 a ha]
          rcases hfk with ⟨e1, e2⟩ | ⟨e1, e2⟩ | ⟨e1, i, hi, e2⟩
          · subst e2
            obtain ⟨n0, xs, f1, -, f2, f3⟩ := hF.2.2.2.2.2.2.2.2.1
            rw [f1] at hf
            cases hf
            have hlt : G.2.2.1 0 < s.heap.size := Nat.lt_of_lt_of_le (hF.2.2.2.2.2.2.2.1.2.2.1 0 _ (by omega) f1 (fun h => nomatch h)) hF.2.2.2.2.2.2.1
            exact va_slen hx hcc f2 hlt f3 hS hd (hk ls hL)
          · subst e2
            obtain ⟨f1, f2⟩ := hF.2.2.2.2.2.2.2.2.2.1
            rw [f1] at hf
            cases hf
            exact va_tlen hx hcc f2 hS rfl hd (hk ls hL)
          · subst e2
            obtain ⟨-, f1, -, -, -, f2, -⟩ := hF.2.2.2.2.2.2.2.2.2.2.2.2.1 i hi
            rw [f1] at hf
            cases hf
            exact va_tlen hx hcc f2 hS rfl hd (hk ls hL)
      · cases hn
    · trivial
  · trivial
theorem as_sald (hd : decode cc pc = .ok (.iaload, 1)) : as_OK Y yn cc mx rt hh pc (am_xld [50] (pc + 1)) := by
  intro p l e R s m args below meth c G M0 o r0 d hK hC L S M hcl
  obtain ⟨hx, hcc, hr, hml, hts, hown, hlocks, hname, htr, hF, hR, htab⟩ := hC
  unfold am_xld
  split
  · rename_i i a S'
    split
    · rename_i v hv
      unfold am_ag at hv
      split at hv
      · rename_i t n f he
        split at hv
        · rename_i hcon
          simp only [Bool.and_eq_true] at hcon
          have ht : t = 50 := by simpa using hcon.1.1
          subst ht
          cases hv
          refine as_same (fun r H locs ls hW hS hL hk => ?_)
          have ha : a < 100 := by
            rcases Nat.lt_or_ge a 100 with h | h
            · exact h
            · rcases hW.2.2.2.2.2.2 a _ h he with z | z <;> cases z
          have hf := hW.2.2.2.1 a ha
          rw [he] at hf
          have hfk := (hF.2.2.2.2.2.2.2.1.2.1 a _ hf.symm).2
          rw [List.map_cons, List.map_cons]
          show W p l e R s m args below meth c H locs _ _ _ (F0 m pc ls (.int i :: .ref (r a) :: _))
          rw [hW.2.2.1 a ha]
          rcases hfk with ⟨e1, e2⟩ | ⟨e1, e2⟩ | ⟨e1, i, hi, e2⟩
          · subst e2
            obtain ⟨n0, xs, f1, -, f2, f3⟩ := hF.2.2.2.2.2.2.2.2.1
            rw [f1] at hf
            cases hf
            have hlt : G.2.2.1 0 < s.heap.size := Nat.lt_of_lt_of_le (hF.2.2.2.2.2.2.2.1.2.2.1 0 _ (by omega) f1 (fun h => nomatch h)) hF.2.2.2.2.2.2.1
            exact va_sld hx hcc f2 hlt f3 hS (as_in hcon.2) hd (hk ls hL)
          · omega
          · omega
        · cases hv
      · split at hv
        · rename_i hcon
          simp at hcon
          omega
        · cases hv
      · split at hv
        · rename_i hcon
          simp at hcon
          omega
        · cases hv
      · cases hv
    · trivial
  · trivial
theorem as_tald (hd : decode cc pc = .ok (.baload, 1)) : as_OK Y yn cc mx rt hh pc (am_xld [1, 2, 52] (pc + 1)) := by
  intro p l e R s m args below meth c G M0 o r0 d hK hC L S M hcl
  obtain ⟨hx, hcc, hr, hml, hts, hown, hlocks, hname, htr, hF, hR, htab⟩ := hC
  unfold am_xld
  split
  · rename_i i a S'
    split
    · rename_i v hv
      unfold am_ag at hv
      split at hv
      · rename_i t n f he
        split at hv
        · rename_i hcon
          simp only [Bool.and_eq_true] at hcon
          have ht : t = 1 ∨ t = 2 ∨ t = 52 := by simpa using hcon.1.1
          cases hv
          rcases ht with rfl | rfl | rfl
          · refine as_same (fun r H locs ls hW hS hL hk => ?_)
            obtain ⟨ws, q0, hP, hD, hq, -⟩ := hW.cell he rfl
            exact va_bald hx hcc hF.1 hP q0 1 hq rfl (as_in hcon.2) hd (hk ls hL)
          · refine as_same (fun r H locs ls hW hS hL hk => ?_)
            obtain ⟨ws, q0, hP, hD, hq, -⟩ := hW.cell he rfl
            exact va_zald hx hcc hF.1 hP q0 2 hq rfl (as_in hcon.2) hd (hk ls hL)
          · refine as_same (fun r H locs ls hW hS hL hk => ?_)
            have ha : a < 100 := by
              rcases Nat.lt_or_ge a 100 with h | h
              · exact h
              · rcases hW.2.2.2.2.2.2 a _ h he with z | z <;> cases z
            have hf := hW.2.2.2.1 a ha
            rw [he] at hf
            have hfk := (hF.2.2.2.2.2.2.2.1.2.1 a _ hf.symm).2
            rw [List.map_cons, List.map_cons]
            show W p l e R s m args below meth c H locs _ _ _ (F0 m pc ls (.int i :: .ref (r a) :: _))
            rw [hW.2.2.1 a ha]
            rcases hfk with ⟨e1, e2⟩ | ⟨e1, e2⟩ | ⟨e1, j, hj, e2⟩
            · omega
            · omega
            · subst e2
              obtain ⟨-, f1, -, -, -, f2, -⟩ := hF.2.2.2.2.2.2.2.2.2.2.2.2.1 j hj
              rw [f1] at hf
              cases hf
              exact va_tb hx hcc f2 hS (as_in hcon.2) rfl hd (hk ls hL)
        · cases hv
      · split at hv
        · rename_i hcon
          simp at hcon
          omega
        · cases hv
      · split at hv
        · rename_i hcon
          simp at hcon
          omega
        · cases hv
      · cases hv
    · trivial
  · trivial
/-- String's fields: value (0), coder (1) -/
theorem as_getS {own : String} {index k : Nat} {n dd : String} (ho : own = yn.cls) (hk2 : (k = 0 ∧ n = "value" ∧ dd = "[B") ∨ (k = 1 ∧ n = "coder" ∧ dd = "B")) (hlink : Cond.fieldLink own index "java/lang/String" n dd ∈ lw_all) (hd : decode cc pc = .ok (.getfield index, 3)) : as_OK Y yn cc mx rt hh pc (am_gf [50] k (pc + 3)) := by
  intro p l e R s m args below meth c G M0 o r0 d hK hC L S M hcl
  obtain ⟨hx, hcc, hr, hml, hts, hown, hlocks, hname, htr, hF, hR, htab⟩ := hC
  unfold am_gf
  split
  · rename_i a S'
    split
    · rename_i v hv
      unfold am_fg at hv
      split at hv
      · rename_i ci fs he
        split at hv
        · rename_i hcon
          have h50 : ci = 50 := by simpa using hcon
          subst h50
          refine as_same (fun r H locs ls hW hS hL hk => ?_)
          have ha : a < 100 := by
            rcases Nat.lt_or_ge a 100 with h | h
            · exact h
            · rcases hW.2.2.2.2.2.2 a _ h he with z | z <;> cases z
          have hf := hW.2.2.2.1 a ha
          rw [he] at hf
          obtain ⟨i, hi, e2⟩ := (hF.2.2.2.2.2.2.2.1.2.1 a _ hf.symm).2 rfl
          rw [List.map_cons]
          show W p l e R s m args below meth c H locs _ _ _ (F0 m pc ls (.ref (r a) :: _))
          rw [hW.2.2.1 a ha]
          subst e2
          obtain ⟨f0, f1, -, f3, f4, f2, -⟩ := hF.2.2.2.2.2.2.2.2.2.2.2.2.1 i hi
          rw [f0] at hf
          cases hf
          have hk3 := hk ls hL
          rw [List.map_cons] at hk3
          rcases hk2 with ⟨rfl, rfl, rfl⟩ | ⟨rfl, rfl, rfl⟩
          · cases hv
            have e5 : as_v r (.ref (11 + 2 * i)) = .ref (G.2.2.1 (11 + 2 * i)) := congrArg Value.ref (hW.2.2.1 _ (by omega))
            rw [e5] at hk3
            exact vk_getf hx hcc f4 hS (by rw [ho]; exact hown) (hts _ hlink) (fun x hx => hx) hd hk3
          · cases hv
            exact vk_getf hx hcc f3 hS (by rw [ho]; exact hown) (hts _ hlink) (fun x hx => hx) hd hk3
        · cases hv
      · cases hv
    · trivial
  · trivial
theorem as_ldcs {index i : Nat} {tx : String} (ho : "FiveTouch$Reader" = yn.cls) (hi : i < 26) (hs : as_strs[i]? = some (index, tx)) (hd : decode cc pc = .ok (.ldc index, 2)) : as_OK Y yn cc mx rt hh pc (am_push (.ref (10 + 2 * i)) (pc + 2)) := by
  intro p l e R s m args below meth c G M0 o r0 d hK hC L S M hcl
  obtain ⟨hx, hcc, hr, hml, hts, hown, hlocks, hname, htr, hF, hR, htab⟩ := hC
  refine as_same (fun r H locs ls hW hS hL hk => ?_)
  obtain ⟨-, -, -, -, -, -, f7⟩ := hF.2.2.2.2.2.2.2.2.2.2.2.2.1 i hi
  have e0 : as_strs.getD i (0, "") = (index, tx) := by rw [List.getD_eq_getElem?_getD, hs]; rfl
  rw [e0] at f7
  have hk2 := hk ls hL
  rw [List.map_cons] at hk2
  have e5 : as_v r (.ref (10 + 2 * i)) = .ref (G.2.2.1 (10 + 2 * i)) := congrArg Value.ref (hW.2.2.1 _ (by omega))
  rw [e5] at hk2
  exact va_ldcS hx hcc (by rw [ho]; exact hown) f7 hd hk2
theorem as_ldcM {own : String} {index : Nat} (ho : own = yn.cls) (hlink : Cond.classLink own index "[Ljava/lang/Object;" ∈ lw_all) (hd : decode cc pc = .ok (.ldc index, 2)) : as_OK Y yn cc mx rt hh pc (am_push (.ref 2) (pc + 2)) := by
  intro p l e R s m args below meth c G M0 o r0 d hK hC L S M hcl
  obtain ⟨hx, hcc, hr, hml, hts, hown, hlocks, hname, htr, hF, hR, htab⟩ := hC
  refine as_same (fun r H locs ls hW hS hL hk => ?_)
  have hk2 := hk ls hL
  rw [List.map_cons] at hk2
  have e5 : as_v r (.ref 2) = .ref (G.2.2.1 2) := congrArg Value.ref (hW.2.2.1 _ (by omega))
  rw [e5] at hk2
  exact va_ldcM hx hcc (by rw [ho]; exact hown) (hts _ hlink) hF.2.2.2.2.2.2.2.2.2.2.1 hd hk2
theorem as_acmp_eq {off : Int} (hd : decode cc pc = .ok (.if_acmp .eq off, 3)) (ht : (pc : Int) + off = (tgt : Int)) : as_OK Y yn cc mx rt hh pc (am_ac tgt (pc + 3)) := by
  intro p l e R s m args below meth c G M0 o r0 d hK hC L S M hcl
  obtain ⟨hx, hcc, hr, hml, hts, hown, hlocks, hname, htr, hF, hR, htab⟩ := hC
  unfold am_ac
  split
  · rename_i y x S'
    split
    · rename_i hxy
      subst hxy
      exact as_same (fun r H locs ls hW hS hL hk => lv_acmp_eq (rx := some (r x)) (ry := some (r x)) hx hcc hd ht (fun _ => hk ls hL) (fun h => absurd rfl h))
    · rename_i hxy
      split
      · rename_i hcon
        refine as_same (fun r H locs ls hW hS hL hk => lv_acmp_eq (rx := some (r x)) (ry := some (r y)) hx hcc hd ht (fun h => ?_) (fun _ => hk ls hL))
        exact absurd (as_ne hF hW (hcl.2.2 _ (List.mem_cons_of_mem _ List.mem_cons_self) _ rfl) (hcl.2.2 _ List.mem_cons_self _ rfl) hcon (Option.some.inj h)) hxy
      · trivial
  · trivial
theorem as_acmp_ne {off : Int} (hd : decode cc pc = .ok (.if_acmp .ne off, 3)) (ht : (pc : Int) + off = (tgt : Int)) : as_OK Y yn cc mx rt hh pc (am_ac (pc + 3) tgt) := by
  intro p l e R s m args below meth c G M0 o r0 d hK hC L S M hcl
  obtain ⟨hx, hcc, hr, hml, hts, hown, hlocks, hname, htr, hF, hR, htab⟩ := hC
  unfold am_ac
  split
  · rename_i y x S'
    split
    · rename_i hxy
      subst hxy
      exact as_same (fun r H locs ls hW hS hL hk => lv_acmp_ne (rx := some (r x)) (ry := some (r x)) hx hcc hd ht (fun h => absurd rfl h) (fun _ => hk ls hL))
    · rename_i hxy
      split
      · rename_i hcon
        refine as_same (fun r H locs ls hW hS hL hk => lv_acmp_ne (rx := some (r x)) (ry := some (r y)) hx hcc hd ht (fun _ => hk ls hL) (fun h => ?_))
        exact absurd (as_ne hF hW (hcl.2.2 _ (List.mem_cons_of_mem _ List.mem_cons_self) _ rfl) (hcl.2.2 _ List.mem_cons_self _ rfl) hcon (Option.some.inj h)) hxy
      · trivial
  · trivial
theorem as_gc {own : String} {index : Nat} (ho : own = yn.cls) (hlink : Cond.methodLink own index ⟨"java/lang/Object", "getClass", "()Ljava/lang/Class;"⟩ ∈ lw_all) (hdec : (⟨"java/lang/Object", "getClass", "()Ljava/lang/Class;"⟩ : MethodName) ∈ as_nwD) (hsel : Cond.selects "[Ljava/lang/Object;" ⟨"java/lang/Object", "getClass", "()Ljava/lang/Class;"⟩ ⟨"java/lang/Object", "getClass", "()Ljava/lang/Class;"⟩ ∈ lw_all) (hinst : Cond.instanceMethod ⟨"java/lang/Object", "getClass", "()Ljava/lang/Class;"⟩ ∈ lw_all) (hnat : Cond.native ⟨"java/lang/Object", "getClass", "()Ljava/lang/Class;"⟩ ∈ lw_all) (hd : decode cc pc = .ok (.invokevirtual index, 3)) : as_OK Y yn cc mx rt hh pc (am_gc (pc + 3)) := by
  intro p l e R s m args below meth c G M0 o r0 d hK hC L S M hcl
  obtain ⟨hx, hcc, hr, hml, hts, hown, hlocks, hname, htr, hF, hR, htab⟩ := hC
  unfold am_gc
  split
  · rename_i a S'
    split
    · rename_i x he
      split
      · rename_i hw
        refine as_same (fun r H locs ls hW hS hL hk => ?_)
        obtain ⟨ws, q0, hP, hD, hq, -⟩ := hW.cell he rfl
        have hcell : H[r a]? = some (vp_cell (G.2.1 4) (as_x r x)) := hP q0 _ hq
        have hk2 := hk ls hL
        rw [List.map_cons] at hk2
        have e5 : as_v r (.ref 2) = .ref (G.2.2.1 2) := congrArg Value.ref (hW.2.2.1 _ (by omega))
        rw [e5] at hk2
        have hRA : va_RA s (G.2.1 4) (.object "java/lang/Object") := (hF.1.2 4 _ rfl).2
        have hnm : s.vm.findClass "[Ljava/lang/Object;" = some (G.2.1 4) := va_nmO hRA rfl
        refine va_getC hx hcc (by rw [hml]; exact hL.2.1.symm) (by rw [ho]; exact hown) (hts _ hlink) (va_Nw.use rfl (hF.2.2.2.2.1 _ hdec)) (hts _ hsel) (hts _ hinst) (hts _ hnat) hF.2.2.2.2.2.2.2.2.2.2.1 ⟨_, hcell, ?_, ?_⟩ (by have h0 := hR.1; omega) (by have := as_w8 (r := r) hw; have h0 := hR.2.2.2; show _ + 14 ≤ R.locals; omega) hd hk2
        · obtain ⟨n, y⟩ := x
          rcases y with f | f | f | f | f <;> rfl
        · obtain ⟨n, y⟩ := x
          rcases y with f | f | f | f | f <;> exact hnm
      · trivial
    · trivial
  · trivial
end ASN
