/-! Soundness of AM: the rows that read and write memory -/
set_option maxRecDepth 100000
theorem as_W.fgn {G : as_P} {U : State} {r : Nat → Nat} {M : am_M} {H H' : Heap} (hF : as_F G U H') (hW : as_W G r M H) {a : Nat} {e : am_E} (ha : am_at M a = some e) (hr : as_real e = true) : 100 ≤ a := by
  rcases Nat.lt_or_ge a 100 with h | h
  · have h1 := hW.2.2.2.1 a h
    rw [ha] at h1
    have h2 := (hF.2.2.2.2.2.2.2.1.2.1 a e h1.symm).1
    rw [hr] at h2
    cases h2
  · exact h
theorem as_W.cell {G : as_P} {r : Nat → Nat} {M : am_M} {H : Heap} (hW : as_W G r M H) {a : Nat} {e : am_E} (ha : am_at M a = some e) (hr : as_real e = true) : ∃ (ws : va_W) (q0 : Nat), va_P G.1 as_cl ws H ∧ va_D (as_A G) ws ∧ ws[q0]? = some (r a, as_e G.2.1 r e) ∧ ∀ b x, am_at M b = some x → as_real x = true → (r b, as_e G.2.1 r x) ∈ ws := by
  obtain ⟨ws, hP, hD, hc⟩ := hW.1
  obtain ⟨q0, hq⟩ := List.getElem?_of_mem (hc a e ha hr)
  exact ⟨ws, q0, hP, hD, hq, hc⟩
theorem as_put {G : as_P} {U : State} {r : Nat → Nat} {M : am_M} {H H' H1 : Heap} (hF : as_F G U H') (hW : as_W G r M H) {a q0 : Nat} {e e' : am_E} {ws : va_W} (ha : am_at M a = some e) (he : as_real e = true) (he' : as_real e' = true)
    (hcov : ∀ b x, am_at M b = some x → as_real x = true → (r b, as_e G.2.1 r x) ∈ ws) (hq : ws[q0]? = some (r a, as_e G.2.1 r e)) (hP : va_P G.1 as_cl (ws.set q0 (r a, as_e G.2.1 r e')) H1) (hD : va_D (as_A G) (ws.set q0 (r a, as_e G.2.1 r e'))) : as_W G r (am_put M a e') H1 := by
  have h100 := as_W.fgn hF hW ha he
  have hql : q0 < ws.length := (List.getElem?_eq_some_iff.mp hq).1
  have back : ∀ b x, am_at (am_put M a e') b = some x → ∃ x0, am_at M b = some x0 ∧ as_real x0 = as_real x := by
    intro b x hb
    by_cases hab : a = b
    · subst hab
      rw [am_at_put_self ha] at hb
      cases hb
      exact ⟨e, ha, he.trans he'.symm⟩
    · rw [am_at_put_ne hab] at hb
      exact ⟨x, hb, rfl⟩
  refine ⟨⟨_, hP, hD, fun b x hb hx => ?_⟩, fun b b2 x x2 hb hx hb2 hx2 heq => ?_, hW.2.2.1, fun b hb => ?_, hW.2.2.2.2.1, by rw [am_len_put]; exact hW.2.2.2.2.2.1, fun b x hb hbx => ?_⟩
  · by_cases hab : a = b
    · subst hab
      rw [am_at_put_self ha] at hb
      cases hb
      exact List.mem_of_getElem? (List.getElem?_set_self hql)
    · rw [am_at_put_ne hab] at hb
      obtain ⟨j, hj⟩ := List.getElem?_of_mem (hcov b x hb hx)
      have hne : q0 ≠ j := by
        intro h
        subst h
        rw [hq] at hj
        exact hab (hW.2.1 a b e x ha he hb (Or.inl hx) (congrArg (fun z => z.map Prod.fst) hj |> Option.some.inj))
      exact List.mem_of_getElem? (by rw [List.getElem?_set_ne hne]; exact hj)
  · obtain ⟨y, hy, hy2⟩ := back b x hb
    obtain ⟨z, hz, hz2⟩ := back b2 x2 hb2
    have hz3 : as_real z = true ∨ (b2 < 100 ∧ z ≠ .inr (60, [])) := by
      rcases hx2 with h | ⟨h, h'⟩
      · exact Or.inl (hz2.trans h)
      · by_cases hab : a = b2
        · omega
        · rw [am_at_put_ne hab] at hb2
          rw [hz] at hb2
          cases hb2
          exact Or.inr ⟨h, h'⟩
    exact hW.2.1 b b2 y z hy (hy2.trans hx) hz hz3 heq
  · rw [am_at_put_ne (show a ≠ b by omega)]
    exact hW.2.2.2.1 b hb
  · by_cases hab : a = b
    · subst hab
      rw [am_at_put_self ha] at hbx
      cases hbx
      exact Or.inl he'
    · rw [am_at_put_ne hab] at hbx
      exact hW.2.2.2.2.2.2 b x hb hbx
theorem as_v_ren {r r' : Nat → Nat} {N : Nat} {v : Value} (h : am_cv N v) (hr : ∀ a, a < N → r' a = r a) : as_v r' v = as_v r v := by
  cases v with
  | ref a => exact congrArg Value.ref (hr a (h a rfl))
  | _ => rfl
theorem as_S_ren {r r' : Nat → Nat} {N : Nat} {S : List Value} (h : ∀ v ∈ S, am_cv N v) (hr : ∀ a, a < N → r' a = r a) : S.map (as_v r') = S.map (as_v r) := List.map_congr_left (fun v hv => as_v_ren (h v hv) hr)
theorem as_e_ren {r r' : Nat → Nat} {dA : Nat → ClassId} {N : Nat} {e : am_E} (h : am_cE N e) (hr : ∀ a, a < N → r' a = r a) : as_e dA r' e = as_e dA r e := by
  cases e with
  | inr x => exact congrArg (fun z => (Sum.inr (x.1, z) : va_E)) (as_S_ren h hr)
  | inl x =>
    obtain ⟨t, n, y⟩ := x
    rcases y with f | f | f | f | f
    · rfl
    · rfl
    · rfl
    · rfl
    · refine congrArg (fun z => (Sum.inl (dA t, n, .inr (.inr (.inr (.inr z)))) : va_E)) ?_
      funext k
      cases hk : f k with
      | none => rfl
      | some b => exact congrArg some (hr b (h f rfl k b hk))
theorem as_new {G : as_P} {U : State} {r : Nat → Nat} {M : am_M} {H H' H1 : Heap} (hF : as_F G U H') (hM : am_cM M) (hW : as_W G r M H) {q n : Nat} {e : am_E} {ws : va_W} (he : as_real e = true) (hce : am_cE (am_len M) e)
    (hcov : ∀ b x, am_at M b = some x → as_real x = true → (r b, as_e G.2.1 r x) ∈ ws) (hP : va_P G.1 as_cl (ws ++ [(q, as_e G.2.1 r e)]) H1) (hD : va_D (as_A G) (ws ++ [(q, as_e G.2.1 r e)])) : as_W G (fun b => if b = am_len M then q else r b) (am_new M n e) H1 := by
  have hlen := hW.2.2.2.2.2.1
  have hren : ∀ a, a < am_len M → (if a = am_len M then q else r a) = r a := fun a ha => if_neg (by omega)
  have hlast : (ws ++ [(q, as_e G.2.1 r e)])[ws.length]? = some (q, as_e G.2.1 r e) := by rw [List.getElem?_append_right (Nat.le_refl _)]; simp
  have hfr : ∀ b x, am_at M b = some x → (as_real x = true ∨ (b < 100 ∧ x ≠ .inr (60, []))) → r b ≠ q := by
    intro b x hb hx heq
    rcases hx with hx | hx
    · obtain ⟨j, hj⟩ := List.getElem?_of_mem (hcov b x hb hx)
      have hjl : j < ws.length := (List.getElem?_eq_some_iff.mp hj).1
      have hj2 : (ws ++ [(q, as_e G.2.1 r e)])[j]? = some (r b, as_e G.2.1 r x) := by rw [List.getElem?_append_left hjl]; exact hj
      have := hD.1 j ws.length _ _ hj2 hlast heq
      omega
    · have h1 := hF.2.2.2.2.2.2.2.1.2.2.1 b x hx.1 ((hW.2.2.2.1 b hx.1).symm.trans hb) hx.2
      rw [← hW.2.2.1 b hx.1, heq] at h1
      have h2 : G.2.2.2.1 ≤ q := hD.2 _ _ hlast
      omega
  have cases' : ∀ b x, am_at (am_new M n e) b = some x → (b < am_len M ∧ am_at M b = some x) ∨ (b = am_len M ∧ x = e) := by
    intro b x hb
    rcases Nat.lt_or_ge b (am_len M) with h | h
    · rw [am_at_new_old h] at hb
      exact Or.inl ⟨h, hb⟩
    · have h1 := am_at_lt hb
      rw [am_len_new] at h1
      have h2 : b = am_len M := by omega
      subst h2
      rw [am_at_new_self] at hb
      exact Or.inr ⟨rfl, (Option.some.inj hb).symm⟩
  refine ⟨⟨_, hP, hD, fun b x hb hx => ?_⟩, fun b b2 x x2 hb hx hb2 hx2 heq => ?_, fun b hb => ?_, fun b hb => ?_, hW.2.2.2.2.1, by rw [am_len_new]; omega, fun b x hb hbx => ?_⟩
  · rcases cases' b x hb with ⟨h1, h2⟩ | ⟨h1, h2⟩
    · rw [as_e_ren (hM.1 b x h2) hren]
      show ((if b = am_len M then q else r b), _) ∈ _
      rw [hren b h1]
      exact List.mem_append_left _ (hcov b x h2 hx)
    · subst h1; subst h2
      rw [as_e_ren hce hren]
      show ((if am_len M = am_len M then q else r _), _) ∈ _
      rw [if_pos rfl]
      exact List.mem_append_right _ List.mem_cons_self
  · have heq : (if b = am_len M then q else r b) = (if b2 = am_len M then q else r b2) := heq
    rcases cases' b x hb with ⟨h1, h2⟩ | ⟨h1, h2⟩ <;> rcases cases' b2 x2 hb2 with ⟨h3, h4⟩ | ⟨h3, h4⟩
    · rw [hren b h1, hren b2 h3] at heq
      exact hW.2.1 b b2 x x2 h2 hx h4 hx2 heq
    · rw [hren b h1, if_pos h3] at heq
      exact absurd heq (hfr b x h2 (Or.inl hx))
    · rw [if_pos h1, hren b2 h3] at heq
      exact absurd heq.symm (hfr b2 x2 h4 hx2)
    · omega
  · show (if b = am_len M then q else r b) = _
    rw [hren b (by omega)]
    exact hW.2.2.1 b hb
  · rw [am_at_new_old (by omega)]
    exact hW.2.2.2.1 b hb
  · rcases cases' b x hbx with ⟨h1, h2⟩ | ⟨h1, h2⟩
    · exact hW.2.2.2.2.2.2 b x hb h2
    · subst h2
      exact Or.inl he
theorem as_S2 {A : Nat → Prop} {H0 H H1 : Heap} {locs locs1 : List Loc} (h1 : va_S A H0 H locs) (h2 : va_S A H H1 locs1) : va_S A H0 H1 locs1 := ⟨Nat.le_trans h1.1 h2.1, fun q hq hn => (h2.2.1 q (Nat.lt_of_lt_of_le hq h1.1) hn).trans (h1.2.1 q hq hn), h2.2.2⟩
theorem as_S0 {A : Nat → Prop} {H0 H : Heap} {locs : List Loc} (h : va_S A H0 H locs) : va_S A H H locs := ⟨Nat.le_refl _, fun _ _ _ => rfl, h.2.2⟩
theorem as_ff {s : State} {C n dd : String} {c i : Nat} {k : Class} {f : Field} (h : s.fieldFound? C n dd = some (c, k, i, f)) : s.vm.classes[c]? = some k := by
  simp only [State.fieldFound?, Option.bind_eq_bind, Option.bind_eq_some_iff, Option.pure_def, Option.some.injEq, Prod.mk.injEq] at h
  obtain ⟨_, _, _, _, ⟨_, _⟩, _, k', hk, f', hf, rfl, rfl, rfl, rfl⟩ := h
  exact hk
/-- apart: two fields of a class, of other names or of other classes -/
theorem as_apart {s : State} {args : Array Value} {D : va_G} {tys : List (ClassId × FieldType)} {C : String} {T : u_T} {N ci : Nat} {Ts : List Cond} (hts : ∀ w ∈ Ts, w.before args s = true) (hin : ∀ w ∈ u_ws C T N, w ∈ Ts) (ty : Nat → FieldType) (hty : ∀ k, k < N → parseFieldDescriptor (T k).2.2.1 = some (ty k)) (hnm : ∀ a, a < N → ∀ b, b < N → a ≠ b → (T a).2.1 ≠ (T b).2.1 ∨ ((T a).2.2.2 = true ∧ (T b).2.2.2 = true ∧ (T a).1 ≠ (T b).1)) (hK : va_K D as_cl tys s) (hc : as_cl[ci]? = some (C, T, N)) : ∀ x y, x < N → y < N → x ≠ y → (D.2 ci) x ≠ (D.2 ci) y := by
  intro x y hx hy hne
  obtain ⟨hS, -⟩ := hK.1 ci _ hc
  obtain ⟨_, _, _, fa, hia, ea⟩ := hS x hx
  obtain ⟨_, _, _, fb, hib, eb⟩ := hS y hy
  rw [← ea, ← eb]
  rcases hnm x hx y hy hne with h | ⟨f1, f2, h⟩
  · refine u_apart (u_lays hts hin hx) (u_lays hts hin hy) hia hib ?_
    rw [(State.fieldFound?_type hia (hty x hx)).1, (State.fieldFound?_type hib (hty y hy)).1]
    exact h
  · have lx := hts _ (hin _ (u_in_lay hx))
    have ly := hts _ (hin _ (u_in_lay hy))
    unfold u_lay at lx ly
    rw [if_pos f1] at lx
    rw [if_pos f2] at ly
    obtain ⟨c1, k1, c1', k1', i1, g1, p1, p2, p3, p4, p5, p6, p7, p8, d1, p9, p10, p11, p12⟩ := Cond.laysFinal_spec lx
    obtain ⟨c2, k2, c2', k2', i2, g2, q1, q2, q3, q4, q5, q6, q7, q8, d2, q9, q10, q11, q12⟩ := Cond.laysFinal_spec ly
    have e1 := as_ff p3
    have e2 := as_ff q3
    cases hia.symm.trans p3
    cases hib.symm.trans q3
    cases p1.symm.trans q1
    intro hs
    rw [hs] at p9
    cases p9.symm.trans q9
    obtain ⟨z1, w1, w2⟩ := Vm.findClass_spec p7
    obtain ⟨z2, w3, w4⟩ := Vm.findClass_spec q7
    cases e1.symm.trans w1
    cases e2.symm.trans w3
    exact h (w2.symm.trans (p10.symm.trans (q10.trans w4)))
section ASM
variable {p : Program} {l : Launch} {e : Env} {R : Room} {s : State} {m : MethodId} {args : Array Value} {below : List Frame} {meth : Method} {c : Code} {G : as_P} {d : Nat} {M0 : am_M} {o : am_O} {r0 : Nat → Nat} {yn : MethodName} {cc : ByteArray} {mx : Nat} {rt : Option FieldType} {hh : List (Nat × Nat × Nat × Nat)} {Y : Nat → Option as_D} {pc nxt tgt : Nat}
/-- a field's link, by its class's place and its own -/
def as_fl (own : String) (index : Nat) (ref : String) (k ci : Nat) : Prop := ∃ (C : String) (T : u_T) (N : Nat), as_cl[ci]? = some (C, T, N) ∧ (∀ w ∈ u_ws C T N, w ∈ lw_all) ∧ k < N ∧ (Cond.fieldLink own index ref (T k).2.1 (T k).2.2.1 ∈ lw_all ∨ ∃ host, (own, index, ref, (T k).2.1, (T k).2.2.1, host) ∈ as_nwF) ∧ ((T k).1 = ref ∨ Cond.sameField ref (T k).1 (T k).2.1 (T k).2.2.1 ∈ lw_all)
theorem as_same_f {T : u_T} {k : Nat} {ref : String} (hts : ∀ w ∈ lw_all, w.before args s = true) (h : (T k).1 = ref ∨ Cond.sameField ref (T k).1 (T k).2.1 (T k).2.2.1 ∈ lw_all) : ∀ x, s.fieldFound? (T k).1 (T k).2.1 (T k).2.2.1 = some x → s.fieldFound? ref (T k).2.1 (T k).2.2.1 = some x := by
  intro x hx
  rcases h with h | h
  · rw [← h]; exact hx
  · exact u_same (hts _ h) x hx
theorem as_getf {own ref : String} {index k : Nat} {cs : List Nat} (ho : own = yn.cls) (hfl : ∀ ci ∈ cs, ci < 50 ∧ as_fl own index ref k ci) (hd : decode cc pc = .ok (.getfield index, 3)) : as_OK Y yn cc mx rt hh pc (am_gf cs k (pc + 3)) := by
  intro p l e R s m args below meth c G M0 o r0 d hK hC L S M hcl
  obtain ⟨hx, hcc, hr, hml, hts, hown, hlocks, hname, htr, hF, hR, htab⟩ := hC
  unfold am_gf
  split
  · split
    · rename_i v hv
      unfold am_fg at hv
      split at hv
      · rename_i ci fs he
        split at hv
        · rename_i hcon
          obtain ⟨h50, C, T, N, h1, h2, h3, h4, h5⟩ := hfl ci (by simpa using hcon)
          refine as_same (fun r H locs ls hW hS hL hk => ?_)
          obtain ⟨ws, q0, hP, hD, hq, -⟩ := hW.cell he (by simp [as_real, h50])
          have hv2 : (fs.map (as_v r))[k]? = some (as_v r v) := by rw [List.getElem?_map, hv]; rfl
          rcases h4 with h4 | ⟨host, h4⟩
          · exact va_get hx hcc hts h2 (by rw [ho]; exact hown) hF.1 hP q0 hq h1 k h3 (hts _ h4) (as_same_f hts h5) hv2 hd (hk ls hL)
          · exact va_getN hx hcc hts h2 (by rw [ho]; exact hown) hF.1 hP q0 hq h1 k h3 (va_Nw.use rfl (hF.2.1 _ h4)) (as_same_f hts h5) hv2 hd (hk ls hL)
        · cases hv
      · cases hv
    · trivial
  · trivial
/-- what a field of a kind may hold -/
def as_fty (ty : Nat) (t : FieldType) : Prop := (ty = 0 ∧ t = .int) ∨ (ty = 1 ∧ t = .boolean) ∨ (ty = 2 ∧ t = .long) ∨ (ty = 3 ∧ ((∃ n, t = .object n) ∨ ∃ z, t = .array z))
theorem as_fit_ok {ty : Nat} {t : FieldType} {v : Value} {r : Nat → Nat} (h : as_fty ty t) (hv : am_fit ty v = true) : narrow t (as_v r v) = as_v r v ∧ fits t (as_v r v) = true := by
  rcases h with ⟨rfl, rfl⟩ | ⟨rfl, rfl⟩ | ⟨rfl, rfl⟩ | ⟨rfl, h⟩
  · cases v <;> simp [am_fit] at hv
    exact ⟨rfl, rfl⟩
  · cases v <;> simp [am_fit] at hv
    rcases hv with rfl | rfl <;> exact ⟨rfl, rfl⟩
  · cases v <;> simp [am_fit] at hv
    exact ⟨rfl, rfl⟩
  · cases v <;> simp [am_fit] at hv <;> rcases h with ⟨n, rfl⟩ | ⟨z, rfl⟩ <;> exact ⟨rfl, rfl⟩
theorem as_putf {own ref : String} {index k ty : Nat} {cs : List Nat} (ho : own = yn.cls) (hfl : ∀ ci ∈ cs, ci < 50 ∧ ∃ (C : String) (T : u_T) (N : Nat), as_cl[ci]? = some (C, T, N) ∧ (∀ w ∈ u_ws C T N, w ∈ lw_all) ∧ k < N ∧ (Cond.fieldLink own index ref (T k).2.1 (T k).2.2.1 ∈ lw_all ∨ ∃ host, (own, index, ref, (T k).2.1, (T k).2.2.1, host) ∈ as_nwF) ∧ ((T k).1 = ref ∨ Cond.sameField ref (T k).1 (T k).2.1 (T k).2.2.1 ∈ lw_all) ∧ (∃ ty0 : Nat → FieldType, (∀ k, k < N → parseFieldDescriptor (T k).2.2.1 = some (ty0 k)) ∧ as_fty ty (ty0 k)) ∧ (∀ a, a < N → ∀ b, b < N → a ≠ b → (T a).2.1 ≠ (T b).2.1 ∨ ((T a).2.2.2 = true ∧ (T b).2.2.2 = true ∧ (T a).1 ≠ (T b).1)) ∧ ((T k).2.2.2 = false ∨ ((T k).2.2.2 = true ∧ yn.name = "<init>" ∧ (T k).1 = own ∧ Cond.fieldLink own index ref (T k).2.1 (T k).2.2.1 ∈ lw_all))) (hd : decode cc pc = .ok (.putfield index, 3)) : as_OK Y yn cc mx rt hh pc (am_pf cs k ty (pc + 3)) := by
  intro p l e R s m args below meth c G M0 o r0 d hK hC L S M hcl
  obtain ⟨hx, hcc, hr, hml, hts, hown, hlocks, hname, htr, hF, hR, htab⟩ := hC
  unfold am_pf
  split
  · rename_i v a S'
    split
    · rename_i hfit
      split
      · rename_i M' hM'
        unfold am_fp at hM'
        split at hM'
        · rename_i ci fs he
          split at hM'
          · rename_i hcon
            cases hM'
            simp only [Bool.and_eq_true, decide_eq_true_eq] at hcon
            obtain ⟨h50, C, T, N, h1, h2, h3, h4, h5, ⟨ty0, h6, h7⟩, h8, h9⟩ := hfl ci (by simpa using hcon.1)
            intro hk
            refine ⟨⟨hk.1.1, hk.1.2.1, by rw [← am_len_put (M := M) (a := a)]; exact hk.1.2.2⟩, fun r H locs ls hW hr hS hL hY => ?_⟩
            have hre : as_real (.inr (ci, fs)) = true := by simp [as_real, h50]
            obtain ⟨ws, q0, hP, hD, hq, hcov⟩ := hW.cell he hre
            obtain ⟨hn, hft⟩ := as_fit_ok (r := r) h7 hfit
            have hap := as_apart hts h2 ty0 h6 h8 hF.1 h1
            obtain ⟨z, w1, cell, q1, q2, q3, q4⟩ := hP q0 _ hq
            have hz : z = (C, T, N) := Option.some.inj (w1.symm.trans h1)
            subst hz
            obtain ⟨hSl, hfc, kC, hkC, hkind⟩ := hF.1.1 ci _ h1
            obtain ⟨cf, kf, fi, f, hi, hsl⟩ := hSl k h3
            have hlay := hts _ (h2 _ (u_in_lay h3))
            unfold u_lay at hlay
            have hst := (u_facts hfc hkC (u_lays hts h2 h3) hi).1
            have fin : ∀ H' : Heap, H'[r a]? = some (cell.setSlot f.slot (as_v r v)) → H'.size = H.size → (∀ q, q ≠ r a → H'[q]? = H[q]?) → W p l e R s m args below meth c H' (locs ++ [⟨r a, f.slot⟩]) (M.1 - M0.1) (M.2.1 - M0.2.1) (as_Q p l e R s m args below meth c G M0 o r0) (F0 m (pc + 3) ls (S'.map (as_v r))) := by
              intro H' e1 e2 e3
              rw [hsl] at e1 ⊢
              have hcell : va_at G.1 as_cl (r a, as_e G.2.1 r (.inr (ci, fs.set k v))) H' := ⟨_, h1, t_OB.to (V := updV (vp_V (fs.map (as_v r))) k (as_v r v)) ⟨_, e1, q2, q3, t_set q4 hap h3 (as_v r v)⟩ (fun j _ => by rw [vp_updV_set (by simpa using hcon.2)]; show vp_V ((fs.map (as_v r)).set k (as_v r v)) j = vp_V ((fs.set k v).map (as_v r)) j; rw [List.map_set])⟩
              have hA : as_A G (r a) := hD.2 q0 _ hq
              exact hk.2 r H' _ ls (as_put hF hW he hre (by simp [as_real, h50]) hcov hq (hP.set hD hq hcell e3) (hD.set hq)) hr (hS.put e2 e3 hA) hL ⟨hY.1, hY.2.1, by rw [am_len_put]; exact hY.2.2⟩
            rcases h9 with h9 | ⟨h9, hin2, hdecl, hlk⟩
            · rw [if_neg (by rw [h9]; decide)] at hlay
              have hs6 := u_store hfc hkC hkind hlay hi (h6 k h3) hn hft
              rcases h4 with h4 | ⟨host, h4⟩
              · exact W.putK hx hcc (f := f) ⟨by rw [ho]; exact hown, hts _ h4, ⟨_, _, _, as_same_f hts h5 _ hi⟩, hst⟩ (by rw [q2]; exact hs6) q1 q3 (by rw [hsl]; exact k2_hasslot (q4 k h3)) rfl rfl hd fin
              · exact va_WputK hx hcc (f := f) (by rw [ho]; exact hown) (va_Nw.use rfl (hF.2.1 _ h4)) (as_same_f hts h5 _ hi) hst (by rw [q2]; exact hs6) q1 q3 (by rw [hsl]; exact k2_hasslot (q4 k h3)) rfl rfl hd fin
            · rw [if_pos h9] at hlay
              have hcf : m.cls = cf := by
                obtain ⟨_, _, c', _, _, _, -, -, hf', -, -, -, hown2, -⟩ := Cond.laysFinal_spec hlay
                have e1 : c' = cf := by have := hi.symm.trans hf'; simp at this; exact this.1.symm
                rw [hdecl, ho] at hown2
                rw [← e1]; exact Option.some.inj (hown.symm.trans hown2)
              have hs6 := u_fits hfc hkC hkind (Or.inr hlay) hi (h6 k h3) hn hft
              exact W.putFinK hx hcc (by rw [ho]; exact hown) (hts _ hlk) (as_same_f hts h5 _ hi) hst hcf (hname.trans hin2) (by rw [q2]; exact hs6) q1 q3 (by rw [hsl]; exact k2_hasslot (q4 k h3)) rfl rfl hd fin
          · cases hM'
        · cases hM'
      · trivial
    · trivial
  · trivial
theorem as_gets {C n dd own : String} {index k : Nat} (ho : own = yn.cls) (hq : as_stl[k]? = some (C, n, dd)) (hlink : Cond.fieldLink own index C n dd ∈ lw_all) (hd : decode cc pc = .ok (.getstatic index, 3)) : as_OK Y yn cc mx rt hh pc (am_gs k (pc + 3)) := by
  intro p l e R s m args below meth c G M0 o r0 d hK hC L S M hcl
  obtain ⟨hx, hcc, hr, hml, hts, hown, hlocks, hname, htr, hF, hR, htab⟩ := hC
  unfold am_gs
  split
  · rename_i v hv
    refine as_same (fun r H locs ls hW hS hL hk => ?_)
    obtain ⟨v', e1, e2⟩ := hF.2.2.2.2.2.2.2.2.2.2.2.1 k _ hq
    have e3 := hW.2.2.2.2.1
    rw [e3] at hv
    cases hv.symm.trans e1
    have hc : am_cv 100 v := hF.2.2.2.2.2.2.2.1.2.2.2 v (List.mem_of_getElem? hv)
    rw [← as_v_ren hc hW.2.2.1] at e2
    exact va_gets hx hcc e2 hS (by rw [ho]; exact hown) (hts _ hlink) (fun x hx => hx) hd (hk ls hL)
  · trivial
theorem as_in {i : Int32} {n : Nat} (h : am_ins i n = true) : vp_in i n := by
  simp only [am_ins, Bool.not_eq_true', Bool.or_eq_false_iff, decide_eq_false_iff_not] at h
  exact fun z => z.elim h.1 h.2
theorem as_iald (hd : decode cc pc = .ok (.iaload, 1)) : as_OK Y yn cc mx rt hh pc (am_xld [0] (pc + 1)) := by
  intro p l e R s m args below meth c G M0 o r0 d hK hC L S M hcl
  obtain ⟨hx, hcc, hr, hml, hts, hown, hlocks, hname, htr, hF, hR, htab⟩ := hC
  unfold am_xld
  split
  · split
    · rename_i v hv
      unfold am_ag at hv
      split at hv
      · rename_i t n f he
        split at hv
        · rename_i hcon
          simp only [Bool.and_eq_true] at hcon
          have ht : t = 0 := by simpa using hcon.1.1
          subst ht
          cases hv
          refine as_same (fun r H locs ls hW hS hL hk => ?_)
          obtain ⟨ws, q0, hP, hD, hq, -⟩ := hW.cell he rfl
          exact va_iald hx hcc hF.1 hP q0 0 hq rfl (as_in hcon.2) hd (hk ls hL)
        · cases hv
      · split at hv
        · rename_i hcon
          simp at hcon
          omega
        · cases hv
      · split at hv
        · rename_i hcon
          simp at hcon
          omega
        · cases hv
      · cases hv
    · trivial
  · trivial
theorem as_bald (hd : decode cc pc = .ok (.baload, 1)) : as_OK Y yn cc mx rt hh pc (am_xld [1, 2] (pc + 1)) := by
  intro p l e R s m args below meth c G M0 o r0 d hK hC L S M hcl
  obtain ⟨hx, hcc, hr, hml, hts, hown, hlocks, hname, htr, hF, hR, htab⟩ := hC
  unfold am_xld
  split
  · split
    · rename_i v hv
      unfold am_ag at hv
      split at hv
      · rename_i t n f he
        split at hv
        · rename_i hcon
          simp only [Bool.and_eq_true] at hcon
          have ht : t = 1 ∨ t = 2 := by simpa using hcon.1.1
          cases hv
          rcases ht with rfl | rfl
          · refine as_same (fun r H locs ls hW hS hL hk => ?_)
            obtain ⟨ws, q0, hP, hD, hq, -⟩ := hW.cell he rfl
            exact va_bald hx hcc hF.1 hP q0 1 hq rfl (as_in hcon.2) hd (hk ls hL)
          · refine as_same (fun r H locs ls hW hS hL hk => ?_)
            obtain ⟨ws, q0, hP, hD, hq, -⟩ := hW.cell he rfl
            exact va_zald hx hcc hF.1 hP q0 2 hq rfl (as_in hcon.2) hd (hk ls hL)
        · cases hv
      · split at hv
        · rename_i hcon
          simp at hcon
          omega
        · cases hv
      · split at hv
        · rename_i hcon
          simp at hcon
          omega
        · cases hv
      · cases hv
    · trivial
  · trivial
theorem as_lald (hd : decode cc pc = .ok (.laload, 1)) : as_OK Y yn cc mx rt hh pc (am_xld [3] (pc + 1)) := by
  intro p l e R s m args below meth c G M0 o r0 d hK hC L S M hcl
  obtain ⟨hx, hcc, hr, hml, hts, hown, hlocks, hname, htr, hF, hR, htab⟩ := hC
  unfold am_xld
  split
  · split
    · rename_i v hv
      unfold am_ag at hv
      split at hv
      · split at hv
        · rename_i hcon
          simp at hcon
          omega
        · cases hv
      · rename_i t n f he
        split at hv
        · rename_i hcon
          simp only [Bool.and_eq_true] at hcon
          have ht : t = 3 := by simpa using hcon.1.1
          subst ht
          cases hv
          refine as_same (fun r H locs ls hW hS hL hk => ?_)
          obtain ⟨ws, q0, hP, hD, hq, -⟩ := hW.cell he rfl
          exact va_lald hx hcc hF.1 hP q0 3 hq rfl (as_in hcon.2) hd (hk ls hL)
        · cases hv
      · split at hv
        · rename_i hcon
          simp at hcon
          omega
        · cases hv
      · cases hv
    · trivial
  · trivial
theorem as_rf {r : Nat → Nat} {x : Option Nat} : as_v r (va_rf x) = va_rf (x.map r) := by cases x <;> rfl
theorem as_aald (hd : decode cc pc = .ok (.aaload, 1)) : as_OK Y yn cc mx rt hh pc (am_xld [4, 5, 6, 7, 8] (pc + 1)) := by
  intro p l e R s m args below meth c G M0 o r0 d hK hC L S M hcl
  obtain ⟨hx, hcc, hr, hml, hts, hown, hlocks, hname, htr, hF, hR, htab⟩ := hC
  unfold am_xld
  split
  · split
    · rename_i v hv
      unfold am_ag at hv
      split at hv
      · split at hv
        · rename_i hcon
          simp at hcon
          omega
        · cases hv
      · split at hv
        · rename_i hcon
          simp at hcon
          omega
        · cases hv
      · rename_i t n f he
        split at hv
        · rename_i hcon
          simp only [Bool.and_eq_true] at hcon
          have ht : t = 4 ∨ t = 5 ∨ t = 6 ∨ t = 7 ∨ t = 8 := by simpa using hcon.1.1
          cases hv
          refine as_same (fun r H locs ls hW hS hL hk => ?_)
          have hre : as_real (.inl (t, n, .inr (.inr (.inr (.inr f))))) = true := by simp [as_real]; omega
          obtain ⟨ws, q0, hP, hD, hq, -⟩ := hW.cell he hre
          have hk2 := hk ls hL
          rw [List.map_cons, as_rf] at hk2
          rcases ht with rfl | rfl | rfl | rfl | rfl
          · exact va_aldq hx hcc hF.1 hP q0 4 hq rfl (as_in hcon.2) hd hk2
          · exact va_aldq hx hcc hF.1 hP q0 5 hq rfl (as_in hcon.2) hd hk2
          · exact va_aldq hx hcc hF.1 hP q0 6 hq rfl (as_in hcon.2) hd hk2
          · exact va_aldq hx hcc hF.1 hP q0 7 hq rfl (as_in hcon.2) hd hk2
          · exact va_aldq hx hcc hF.1 hP q0 8 hq rfl (as_in hcon.2) hd hk2
        · cases hv
      · cases hv
    · trivial
  · trivial
/-- behind a store into an array -/
theorem as_stored {L : am_L} {S S' : List Value} {M : am_M} {a nx : Nat} {e1 e2 : am_E} (hF : as_F G s s.heap) (he : am_at M a = some e1) (h1 : as_real e1 = true) (h2 : as_real e2 = true)
    (h : ∀ (r : Nat → Nat) (H : Heap) (locs : List Loc) (ls : Array Slot) (ws : va_W) (q0 : Nat), va_P G.1 as_cl ws H → va_D (as_A G) ws → ws[q0]? = some (r a, as_e G.2.1 r e1) → as_W G r M H → (∀ b x, am_at M b = some x → as_real x = true → (r b, as_e G.2.1 r x) ∈ ws) → va_S (as_A G) s.heap H locs → va_S (as_A G) H H locs → (∀ (H1 : Heap) (locs1 : List Loc), va_P G.1 as_cl (ws.set q0 (r a, as_e G.2.1 r e2)) H1 → va_D (as_A G) (ws.set q0 (r a, as_e G.2.1 r e2)) → va_S (as_A G) H H1 locs1 → W p l e R s m args below meth c H1 locs1 (M.1 - M0.1) (M.2.1 - M0.2.1) (as_Q p l e R s m args below meth c G M0 o r0) (F0 m nx ls (S'.map (as_v r)))) → ls.size = mx → W p l e R s m args below meth c H locs (M.1 - M0.1) (M.2.1 - M0.2.1) (as_Q p l e R s m args below meth c G M0 o r0) (F0 m pc ls (S.map (as_v r)))) :
    as_J p l e R s m args below meth c G M0 o r0 mx nx L S' (am_put M a e2) → as_J p l e R s m args below meth c G M0 o r0 mx pc L S M := by
  intro hk
  refine ⟨⟨hk.1.1, hk.1.2.1, by rw [← am_len_put (M := M) (a := a)]; exact hk.1.2.2⟩, fun r H locs ls hW hr hS hL hY => ?_⟩
  obtain ⟨ws, q0, hP, hD, hq, hcov⟩ := hW.cell he h1
  exact h r H locs ls ws q0 hP hD hq hW hcov hS (as_S0 hS) (fun H1 locs1 hP1 hD1 hS1 => hk.2 r H1 locs1 ls (as_put hF hW he h1 h2 hcov hq hP1 hD1) hr (as_S2 hS hS1) hL ⟨hY.1, hY.2.1, by rw [am_len_put]; exact hY.2.2⟩) hL.2.1
theorem as_iast (hd : decode cc pc = .ok (.iastore, 1)) : as_OK Y yn cc mx rt hh pc (am_xst [0] (pc + 1)) := by
  intro p l e R s m args below meth c G M0 o r0 d hK hC L S M hcl
  obtain ⟨hx, hcc, hr, hml, hts, hown, hlocks, hname, htr, hF, hR, htab⟩ := hC
  unfold am_xst
  split
  · split
    · rename_i M' hM'
      unfold am_ap at hM'
      split at hM'
      · rename_i t n f he
        split at hM'
        · rename_i hcon
          simp only [Bool.and_eq_true] at hcon
          have ht : t = 0 := by simpa using hcon.1
          subst ht
          cases hM'
          exact as_stored hF he rfl rfl (fun r H locs ls ws q0 hP hD hq hW hcov hS hS0 hk _ => va_iast hx hcc hF.1 hP hD hS0 q0 0 hq rfl (as_in hcon.2) hd hk)
        · cases hM'
      · cases hM'
    · trivial
  · trivial
theorem as_bast (hd : decode cc pc = .ok (.bastore, 1)) : as_OK Y yn cc mx rt hh pc (am_xst [1, 2] (pc + 1)) := by
  intro p l e R s m args below meth c G M0 o r0 d hK hC L S M hcl
  obtain ⟨hx, hcc, hr, hml, hts, hown, hlocks, hname, htr, hF, hR, htab⟩ := hC
  unfold am_xst
  split
  · split
    · rename_i M' hM'
      unfold am_ap at hM'
      split at hM'
      · rename_i t n f he
        split at hM'
        · rename_i hcon
          simp only [Bool.and_eq_true] at hcon
          have ht : t = 1 ∨ t = 2 := by simpa using hcon.1
          cases hM'
          rcases ht with rfl | rfl
          · exact as_stored hF he rfl rfl (fun r H locs ls ws q0 hP hD hq hW hcov hS hS0 hk _ => va_bast hx hcc hF.1 hP hD hS0 q0 1 hq rfl (as_in hcon.2) hd hk)
          · exact as_stored hF he rfl rfl (fun r H locs ls ws q0 hP hD hq hW hcov hS hS0 hk _ => va_zast hx hcc hF.1 hP hD hS0 q0 2 hq rfl (as_in hcon.2) hd hk)
        · cases hM'
      · cases hM'
    · trivial
  · trivial
theorem as_last (hd : decode cc pc = .ok (.lastore, 1)) : as_OK Y yn cc mx rt hh pc (am_xlst (pc + 1)) := by
  intro p l e R s m args below meth c G M0 o r0 d hK hC L S M hcl
  obtain ⟨hx, hcc, hr, hml, hts, hown, hlocks, hname, htr, hF, hR, htab⟩ := hC
  unfold am_xlst
  split
  · split
    · rename_i M' hM'
      unfold am_alp at hM'
      split at hM'
      · rename_i t n f he
        split at hM'
        · rename_i hcon
          simp only [Bool.and_eq_true, decide_eq_true_eq] at hcon
          obtain ⟨rfl, hi⟩ := hcon
          cases hM'
          exact as_stored hF he rfl rfl (fun r H locs ls ws q0 hP hD hq hW hcov hS hS0 hk _ => va_last hx hcc hF.1 hP hD hS0 q0 3 hq rfl (as_in hi) hd hk)
        · cases hM'
      · cases hM'
    · trivial
  · trivial
end ASM
