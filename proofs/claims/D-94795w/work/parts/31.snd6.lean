/-! Soundness of AM: references stored and copied -/
set_option maxRecDepth 100000
section ASD
variable {p : Program} {l : Launch} {e : Env} {R : Room} {s : State} {m : MethodId} {args : Array Value} {below : List Frame} {meth : Method} {c : Code} {G : as_P} {d : Nat} {M0 : am_M} {o : am_O} {r0 : Nat → Nat} {yn : MethodName} {cc : ByteArray} {mx : Nat} {rt : Option FieldType} {hh : List (Nat × Nat × Nat × Nat)} {Y : Nat → Option as_D} {pc nxt tgt : Nat}
theorem as_sameZ {L L' : am_L} {S S' : List Value} {M : am_M} {pc' : Nat} (h : as_Z M o → ∀ (r : Nat → Nat) (H : Heap) (locs : List Loc) (ls : Array Slot), as_W G r M H → va_S (as_A G) s.heap H locs → as_L r ls mx L → (∀ ls', as_L r ls' mx L' → W p l e R s m args below meth c H locs (M.1 - M0.1) (M.2.1 - M0.2.1) (as_Q p l e R s m args below meth c G M0 o r0) (F0 m pc' ls' (S'.map (as_v r)))) → W p l e R s m args below meth c H locs (M.1 - M0.1) (M.2.1 - M0.2.1) (as_Q p l e R s m args below meth c G M0 o r0) (F0 m pc ls (S.map (as_v r)))) :
    as_J p l e R s m args below meth c G M0 o r0 mx pc' L' S' M → as_J p l e R s m args below meth c G M0 o r0 mx pc L S M := fun hk => ⟨hk.1, fun r H locs ls hW hr hS hL hY => h hk.1 r H locs ls hW hS hL (fun ls' hL' => hk.2 r H locs ls' hW hr hS hL' hY)⟩
theorem as_mmaxI {own : String} {index : Nat} (ho : own = yn.cls) (hlink : Cond.methodLink own index Lib.Math.max.name ∈ lw_all) (hstat : Cond.static Lib.Math.max.name ∈ lw_all) (hini : Cond.initialized "java/lang/Math" ∈ lw_all) (hcode : Cond.code Lib.Math.max.name Lib.Math.max.code 2 (some .int) ∈ lw_all) (hd : decode cc pc = .ok (.invokestatic index, 3)) : as_OK Y yn cc mx rt hh pc (am_mi am_imax (pc + 3)) := by
  intro p l e R s m args below meth c G M0 o r0 d hK hC L S M hcl
  obtain ⟨hx, hcc, hr, hml, hts, hown, hlocks, hname, htr, hF, hR, htab⟩ := hC
  unfold am_mi
  split
  · rename_i y x S'
    split
    · rename_i hw
      refine as_sameZ (fun hz r H locs ls hW hS hL hk => ?_)
      obtain ⟨z1, z2, z3⟩ := hz
      have hwr := as_w8 (r := r) hw
      have r1 := hR.1
      have r2 := hR.2.1
      have r3 := hR.2.2.1
      have r4 := hR.2.2.2
      exact va_mmax hx hcc (by rw [hml]; exact hL.2.1.symm) (by rw [ho]; exact hown) (hts _ hlink) (hts _ hstat) (hts _ hini) (hts _ hcode) (by omega) (by omega) (by omega) (by omega) hd (hk ls hL)
    · trivial
  · trivial
theorem as_mminI {own : String} {index : Nat} (ho : own = yn.cls) (hlink : Cond.methodLink own index Lib.Math.min.name ∈ lw_all) (hstat : Cond.static Lib.Math.min.name ∈ lw_all) (hini : Cond.initialized "java/lang/Math" ∈ lw_all) (hcode : Cond.code Lib.Math.min.name Lib.Math.min.code 2 (some .int) ∈ lw_all) (hd : decode cc pc = .ok (.invokestatic index, 3)) : as_OK Y yn cc mx rt hh pc (am_mi am_imin (pc + 3)) := by
  intro p l e R s m args below meth c G M0 o r0 d hK hC L S M hcl
  obtain ⟨hx, hcc, hr, hml, hts, hown, hlocks, hname, htr, hF, hR, htab⟩ := hC
  unfold am_mi
  split
  · rename_i y x S'
    split
    · rename_i hw
      refine as_sameZ (fun hz r H locs ls hW hS hL hk => ?_)
      obtain ⟨z1, z2, z3⟩ := hz
      have hwr := as_w8 (r := r) hw
      have r1 := hR.1
      have r2 := hR.2.1
      have r3 := hR.2.2.1
      have r4 := hR.2.2.2
      exact va_mmin hx hcc (by rw [hml]; exact hL.2.1.symm) (by rw [ho]; exact hown) (hts _ hlink) (hts _ hstat) (hts _ hini) (hts _ hcode) (by omega) (by omega) (by omega) (by omega) hd (hk ls hL)
    · trivial
  · trivial
theorem as_mmaxL {own : String} {index : Nat} (ho : own = yn.cls) (hlink : Cond.methodLink own index Lib.MathLoose.max_long.x ∈ lw_all) (hstat : Cond.static Lib.MathLoose.max_long.x ∈ lw_all) (hini : Cond.initialized "java/lang/Math" ∈ lw_all) (hcode : Cond.code Lib.MathLoose.max_long.x Lib.MathLoose.max_long.code 4 (some .long) ∈ lw_all) (hd : decode cc pc = .ok (.invokestatic index, 3)) : as_OK Y yn cc mx rt hh pc (am_ml am_lmax (pc + 3)) := by
  intro p l e R s m args below meth c G M0 o r0 d hK hC L S M hcl
  obtain ⟨hx, hcc, hr, hml, hts, hown, hlocks, hname, htr, hF, hR, htab⟩ := hC
  unfold am_ml
  split
  · rename_i y x S'
    split
    · rename_i hw
      refine as_sameZ (fun hz r H locs ls hW hS hL hk => ?_)
      obtain ⟨z1, z2, z3⟩ := hz
      have hwr := as_w8 (r := r) hw
      have r1 := hR.1
      have r2 := hR.2.1
      have r3 := hR.2.2.1
      have r4 := hR.2.2.2
      exact va_mmax_long hx hcc (by rw [hml]; exact hL.2.1.symm) (by rw [ho]; exact hown) (hts _ hlink) (hts _ hstat) (hts _ hini) (hts _ hcode) (by omega) (by omega) (by omega) (by omega) hd (hk ls hL)
    · trivial
  · trivial
theorem as_mminL {own : String} {index : Nat} (ho : own = yn.cls) (hlink : Cond.methodLink own index Lib.MathLoose.min_long.x ∈ lw_all) (hstat : Cond.static Lib.MathLoose.min_long.x ∈ lw_all) (hini : Cond.initialized "java/lang/Math" ∈ lw_all) (hcode : Cond.code Lib.MathLoose.min_long.x Lib.MathLoose.min_long.code 4 (some .long) ∈ lw_all) (hd : decode cc pc = .ok (.invokestatic index, 3)) : as_OK Y yn cc mx rt hh pc (am_ml am_lmin (pc + 3)) := by
  intro p l e R s m args below meth c G M0 o r0 d hK hC L S M hcl
  obtain ⟨hx, hcc, hr, hml, hts, hown, hlocks, hname, htr, hF, hR, htab⟩ := hC
  unfold am_ml
  split
  · rename_i y x S'
    split
    · rename_i hw
      refine as_sameZ (fun hz r H locs ls hW hS hL hk => ?_)
      obtain ⟨z1, z2, z3⟩ := hz
      have hwr := as_w8 (r := r) hw
      have r1 := hR.1
      have r2 := hR.2.1
      have r3 := hR.2.2.1
      have r4 := hR.2.2.2
      exact va_mmin_long hx hcc (by rw [hml]; exact hL.2.1.symm) (by rw [ho]; exact hown) (hts _ hlink) (hts _ hstat) (hts _ hini) (hts _ hcode) (by omega) (by omega) (by omega) (by omega) hd (hk ls hL)
    · trivial
  · trivial
theorem as_upq {f : Nat → Option Nat} {k v : Nat} {r : Nat → Nat} : (fun j => ((va_up f k (some v)) j).map r) = va_up (fun j => (f j).map r) k (some (r v)) := by
  funext j
  unfold va_up
  split <;> rfl
theorem as_cpq {f g : Nat → Option Nat} {sp dp n : Nat} {r : Nat → Nat} : (fun j => ((va_cpy f g sp dp n) j).map r) = va_cpy (fun j => (f j).map r) (fun j => (g j).map r) sp dp n := by
  funext j
  unfold va_cpy
  split <;> rfl
theorem as_aast {t0 : Nat} {cs : List Nat} {E : String} (htt : ∀ dA, (as_tys dA)[t0]? = some (dA t0, .object E)) (ht9 : t0 < 9) (hcs : ∀ ci ∈ cs, ci < 50 ∧ ∃ q : vw_C, as_cl[ci]? = some q ∧ (q.1 = E ∨ (q.1, E) ∈ as_nwC)) (hd : decode cc pc = .ok (.aastore, 1)) : as_OK Y yn cc mx rt hh pc (am_xast t0 cs (pc + 1)) := by
  intro p l e R s m args below meth c G M0 o r0 d hK hC L S M hcl
  obtain ⟨hx, hcc, hr, hml, hts, hown, hlocks, hname, htr, hF, hR, htab⟩ := hC
  unfold am_xast
  split
  · rename_i v i a S'
    split
    · rename_i M' hM'
      unfold am_arp at hM'
      split at hM'
      · rename_i t n f he
        split at hM'
        · rename_i hcon
          simp only [Bool.and_eq_true, decide_eq_true_eq] at hcon
          obtain ⟨⟨rfl, hi⟩, hcon⟩ := hcon
          cases hM'
          obtain ⟨h50, q, hq1, hq2⟩ := hcs (am_cls M v) (by simpa using hcon)
          obtain ⟨vs, hv⟩ := am_cls_at (M := M) (a := v) rfl (by omega)
          refine as_stored hF he (by simp [as_real, ht9]) (by simp [as_real, ht9]) (fun r H locs ls ws q0 hP hD hq hW hcov hS hS0 hk _ => ?_)
          obtain ⟨qk, hqk⟩ := List.getElem?_of_mem (hcov v _ hv (by simp [as_real, h50]))
          have hk2 : ∀ (H1 : Heap) (locs1 : List Loc), va_P G.1 as_cl (ws.set q0 (r a, .inl (G.2.1 t, n, .inr (.inr (.inr (.inr (va_up (fun j => (f j).map r) i.toNatClampNeg (some (r v))))))))) H1 → va_D (as_A G) (ws.set q0 (r a, .inl (G.2.1 t, n, .inr (.inr (.inr (.inr (va_up (fun j => (f j).map r) i.toNatClampNeg (some (r v))))))))) → va_S (as_A G) H H1 locs1 → W p l e R s m args below meth c H1 locs1 (M.1 - M0.1) (M.2.1 - M0.2.1) (as_Q p l e R s m args below meth c G M0 o r0) (F0 m (pc + 1) ls (S'.map (as_v r))) := by
            intro H1 locs1 hP1 hD1 hS1
            rw [← as_upq] at hP1 hD1
            exact hk H1 locs1 hP1 hD1 hS1
          rcases hq2 with hq2 | hq2
          · exact va_astq hx hcc hF.1 hP hD hS0 q0 t qk _ hq (by rw [hq2]; exact htt _) hqk hq1 (as_in hi) hd hk2
          · exact va_astqO hx hcc hF.1 hP hD hS0 q0 t qk _ hq (htt _) (hF.2.2.2.1 _ hq2) hqk hq1 (as_in hi) hd hk2
        · cases hM'
      · cases hM'
    · trivial
  · trivial
theorem as_aastS (hd : decode cc pc = .ok (.aastore, 1)) : as_OK Y yn cc mx rt hh pc (am_xast 8 [50] (pc + 1)) := by
  intro p l e R s m args below meth c G M0 o r0 d hK hC L S M hcl
  obtain ⟨hx, hcc, hr, hml, hts, hown, hlocks, hname, htr, hF, hR, htab⟩ := hC
  unfold am_xast
  split
  · rename_i v i a S'
    split
    · rename_i M' hM'
      unfold am_arp at hM'
      split at hM'
      · rename_i t n f he
        split at hM'
        · rename_i hcon
          simp only [Bool.and_eq_true, decide_eq_true_eq] at hcon
          obtain ⟨⟨rfl, hi⟩, hcon⟩ := hcon
          cases hM'
          obtain ⟨vs, hv⟩ := am_cls_at (M := M) (a := v) (c := 50) (by simpa using hcon) (by omega)
          refine as_stored hF he rfl rfl (fun r H locs ls ws q0 hP hD hq hW hcov hS hS0 hk _ => ?_)
          have hk2 : ∀ (H1 : Heap) (locs1 : List Loc), va_P G.1 as_cl (ws.set q0 (r a, .inl (G.2.1 8, n, .inr (.inr (.inr (.inr (va_up (fun j => (f j).map r) i.toNatClampNeg (some (r v))))))))) H1 → va_D (as_A G) (ws.set q0 (r a, .inl (G.2.1 8, n, .inr (.inr (.inr (.inr (va_up (fun j => (f j).map r) i.toNatClampNeg (some (r v))))))))) → va_S (as_A G) H H1 locs1 → W p l e R s m args below meth c H1 locs1 (M.1 - M0.1) (M.2.1 - M0.2.1) (as_Q p l e R s m args below meth c G M0 o r0) (F0 m (pc + 1) ls (S'.map (as_v r))) := by
            intro H1 locs1 hP1 hD1 hS1
            rw [← as_upq] at hP1 hD1
            exact hk H1 locs1 hP1 hD1 hS1
          refine va_astqM hx hcc hF.1 hP hD hS0 q0 8 hq rfl ?_ (as_in hi) hd hk2
          have ha : v < 100 := by
            rcases Nat.lt_or_ge v 100 with h | h
            · exact h
            · rcases hW.2.2.2.2.2.2 v _ h hv with z | z <;> cases z
          have hf := hW.2.2.2.1 v ha
          rw [hv] at hf
          obtain ⟨j, hj, e2⟩ := (hF.2.2.2.2.2.2.2.1.2.1 v _ hf.symm).2 rfl
          rw [hW.2.2.1 _ ha]
          subst e2
          obtain ⟨-, -, f3, -⟩ := hF.2.2.2.2.2.2.2.2.2.2.2.2.1 j hj
          obtain ⟨cell, c1, c2, c3, -⟩ := f3.kept hS.2.1
          obtain ⟨kC, hkC, -⟩ := Vm.findClass_spec c3
          refine ⟨cell, c1, c2, ⟨kC, hkC⟩, fun comp hcomp => ?_⟩
          cases c3.symm.trans hcomp
          exact va_asg _ _
        · cases hM'
      · cases hM'
    · trivial
  · trivial
theorem as_nneg {x : Int32} (h : 0 ≤ x) : ¬ x < 0 := Int32.not_lt.mpr h
theorem as_cpyi {t : Nat} {ty : FieldType} {own : String} {index : Nat} (ho : own = yn.cls) (htt : ∀ dA, (as_tys dA)[t]? = some (dA t, ty)) (ht3 : t < 3) (hprim : refKind ty = false) (hfit : ∀ x, am_nar t x = x → fits ty (.int x) = true) (hlink : Cond.methodLink own index arraycopyName ∈ lw_all) (hnat : Cond.native arraycopyName ∈ lw_all) (hstat : Cond.static arraycopyName ∈ lw_all) (hini : Cond.initialized "java/lang/System" ∈ lw_all) (hd : decode cc pc = .ok (.invokestatic index, 3)) : as_OK Y yn cc mx rt hh pc (am_cpyi t (pc + 3)) := by
  intro p l e R s m args below meth c G M0 o r0 d hK hC L S M hcl
  obtain ⟨hx, hcc, hr, hml, hts, hown, hlocks, hname, htr, hF, hR, htab⟩ := hC
  unfold am_cpyi
  split
  · rename_i n dp a1 sp a0 S'
    split
    · rename_i hw
      split
      · rename_i M' hM'
        unfold am_cpi at hM'
        split at hM'
        · rename_i t1 n0 f t2 n1 g he0 he1
          split at hM'
          · rename_i hcon
            simp only [Bool.and_eq_true, decide_eq_true_eq] at hcon
            obtain ⟨⟨⟨⟨⟨rfl, rfl⟩, ⟨g1, g2⟩, g3⟩, g4⟩, g5⟩, g6⟩ := hcon
            cases hM'
            have hr1 : as_real (.inl (t2, n1, .inl g)) = true := by simp [as_real]; omega
            refine as_stored hF he1 hr1 (by simp [as_real]; omega) (fun r H locs ls ws q0 hP hD hq hW hcov hS hS0 hk hsz => ?_)
            obtain ⟨q1, hq1⟩ := List.getElem?_of_mem (hcov a0 _ he0 (by simp [as_real]; omega))
            refine va_copyi hx hcc (by rw [hml]; exact hsz.symm) (by rw [ho]; exact hown) (hts _ hlink) (hts _ hnat) (hts _ hstat) (hts _ hini) hF.1 hP hD hS0 q1 q0 t2 t2 hq1 hq (htt _) (htt _) hprim (as_nneg g1) (as_nneg g2) (as_nneg g3) g4 g5 (fun i hi => hfit _ ?_) (by have h0 := hR.1; omega) (by have := as_w8 (r := r) hw; have h0 := hR.2.2.2; show _ + (nativeFrameWords "java/lang/System" "arraycopy" 5 + 11) ≤ R.locals; have h2 : nativeFrameWords "java/lang/System" "arraycopy" 5 ≤ 100 := (by decide +kernel); omega) hd hk
            have := List.all_eq_true.mp g6 i (List.mem_range.mpr hi)
            exact of_decide_eq_true this
          · cases hM'
        · cases hM'
      · trivial
    · trivial
  · trivial
theorem as_cpyr {t : Nat} {cs : List Nat} {E : String} {own : String} {index : Nat} (ho : own = yn.cls) (htt : ∀ dA, (as_tys dA)[t]? = some (dA t, .object E)) (ht9 : t < 9) (hcs : ∀ ci ∈ cs, ci < 50 ∧ ∃ q : vw_C, as_cl[ci]? = some q ∧ (q.1 = E ∨ (q.1, E) ∈ as_nwC)) (hlink : Cond.methodLink own index arraycopyName ∈ lw_all) (hnat : Cond.native arraycopyName ∈ lw_all) (hstat : Cond.static arraycopyName ∈ lw_all) (hini : Cond.initialized "java/lang/System" ∈ lw_all) (hd : decode cc pc = .ok (.invokestatic index, 3)) : as_OK Y yn cc mx rt hh pc (am_cpyr t cs (pc + 3)) := by
  intro p l e R s m args below meth c G M0 o r0 d hK hC L S M hcl
  obtain ⟨hx, hcc, hr, hml, hts, hown, hlocks, hname, htr, hF, hR, htab⟩ := hC
  unfold am_cpyr
  split
  · rename_i n dp a1 sp a0 S'
    split
    · rename_i hw
      split
      · rename_i M' hM'
        unfold am_cpr at hM'
        split at hM'
        · rename_i t1 n0 f t2 n1 g he0 he1
          split at hM'
          · rename_i hcon
            simp only [Bool.and_eq_true, decide_eq_true_eq] at hcon
            obtain ⟨⟨⟨⟨⟨rfl, rfl⟩, ⟨g1, g2⟩, g3⟩, g4⟩, g5⟩, g6⟩ := hcon
            cases hM'
            refine as_stored hF he1 (by simp [as_real, ht9]) (by simp [as_real, ht9]) (fun r H locs ls ws q0 hP hD hq hW hcov hS hS0 hk hsz => ?_)
            obtain ⟨q1, hq1⟩ := List.getElem?_of_mem (hcov a0 _ he0 (by simp [as_real, ht9]))
            refine va_copyM hx hcc (by rw [hml]; exact hsz.symm) (by rw [ho]; exact hown) (hts _ hlink) (hts _ hnat) (hts _ hstat) (hts _ hini) hF.1 hP hD hS0 q1 q0 t2 t2 hq1 hq (htt _) (htt _) (as_nneg g1) (as_nneg g2) (as_nneg g3) g4 g5 (fun i hi y hy => ?_) (by have h0 := hR.1; omega) (by have := as_w8 (r := r) hw; have h0 := hR.2.2.2; show _ + (nativeFrameWords "java/lang/System" "arraycopy" 5 + 11) ≤ R.locals; have h2 : nativeFrameWords "java/lang/System" "arraycopy" 5 ≤ 100 := (by decide +kernel); omega) hd (fun H1 locs1 hP1 hD1 hS1 => ?_)
            · have hall := List.all_eq_true.mp g6 i (List.mem_range.mpr hi)
              have hy : (f (sp.toNatClampNeg + i)).map r = some y := hy
              cases hfv : f (sp.toNatClampNeg + i) with
              | none => rw [hfv] at hy; cases hy
              | some v =>
                rw [hfv] at hy hall
                cases hy
                obtain ⟨h50, q, hqc1, hqc2⟩ := hcs (am_cls M v) (by simpa using hall)
                obtain ⟨vs, hv⟩ := am_cls_at (M := M) (a := v) rfl (by omega)
                obtain ⟨qk, hqk⟩ := List.getElem?_of_mem (hcov v _ hv (by simp [as_real, h50]))
                refine va_rAny hF.1 hP hqk hqc1 (fun comp c0 h1 h2 => ?_)
                rcases hqc2 with h3 | h3
                · rw [h3] at h2
                  cases h1.symm.trans h2
                  exact va_asg _ _
                · obtain ⟨c3, c4, hc3, hc4, hasg⟩ := Cond.castable_spec (hF.2.2.2.1 _ h3)
                  cases hc3.symm.trans h2
                  cases hc4.symm.trans h1
                  exact hasg
            · have e := as_cpq (f := f) (g := g) (sp := sp.toNatClampNeg) (dp := dp.toNatClampNeg) (n := n.toNatClampNeg) (r := r)
              rw [← e] at hP1 hD1
              exact hk H1 locs1 hP1 hD1 hS1
          · cases hM'
        · cases hM'
      · trivial
    · trivial
  · trivial
end ASD
