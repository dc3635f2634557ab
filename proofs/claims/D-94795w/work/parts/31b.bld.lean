/-! Soundness of AM: byteAt's load -/
set_option maxRecDepth 100000
section ASB
variable {p : Program} {l : Launch} {e : Env} {R : Room} {s : State} {m : MethodId} {args : Array Value} {below : List Frame} {meth : Method} {c : Code} {G : as_P} {d : Nat} {M0 : am_M} {o : am_O} {r0 : Nat → Nat} {yn : MethodName} {cc : ByteArray} {mx : Nat} {rt : Option FieldType} {hh : List (Nat × Nat × Nat × Nat)} {Y : Nat → Option as_D} {pc nxt tgt : Nat}
/-! byteAt's load, behind the row's end -/
abbrev as_nmX : List String := ["java/lang/IndexOutOfBoundsException", "java/lang/RuntimeException", "java/lang/Exception"]
abbrev as_atX : List Cond := vx_atM "java/lang/ArrayIndexOutOfBoundsException" as_nmX
abbrev as_bX : List Cond := as_nwC.map (fun w => Cond.castable w.1 w.2) ++ as_nwD.map (fun w => Cond.declares w)
theorem as_atX1 : ∀ w ∈ as_atX.filter goodWord, w ∈ lw_tbl := by decide +kernel
theorem as_atX2 : ∀ w ∈ as_atX.filter (fun w => !goodWord w), w ∈ as_bX := by decide +kernel
theorem as_atX3 : ∀ w ∈ as_atX, vx_ot w = true := by decide +kernel
theorem as_hat {U : State} {H : Heap} {args : Array Value} {s : State} (hts : ∀ w ∈ lw_all, w.before args s = true) (hF : as_F G s H) : ∀ w ∈ as_atX, w.before args s = true := by
  refine vx_hat (B := as_bX) (fun w hw => hts w (lw_g (as_atX1 w hw) (List.mem_filter.mp hw).2)) as_atX2 (fun w hw => ?_)
  rcases List.mem_append.mp hw with hw | hw
  · obtain ⟨z, hz, rfl⟩ := List.mem_map.mp hw
    exact va_Nw.use rfl (hF.2.2.2.1 z hz)
  · obtain ⟨z, hz, rfl⟩ := List.mem_map.mp hw
    exact va_Nw.use rfl (hF.2.2.2.2.1 z hz)
theorem as_thrown {r : Nat → Nat} {M : am_M} {H H1 : Heap} {q x y : Nat} (hM : am_cM M) (hW : as_W G r M H) (hge : H.size ≤ H1.size) (hq : ∀ q : Nat, q < H.size → H1[q]? = H[q]?) : as_W G (fun b => if b = am_len M then q else r b) (M.1 + x, M.2.1 + y, M.2.2.1, M.2.2.2 ++ [.inr (60, [])]) H1 := by
  have hlen := hW.2.2.2.2.2.1
  have hren : ∀ a, a < am_len M → (if a = am_len M then q else r a) = r a := fun a ha => if_neg (by omega)
  have cases' : ∀ b z, am_at (M.1 + x, M.2.1 + y, M.2.2.1, M.2.2.2 ++ [.inr (60, [])]) b = some z → (b < am_len M ∧ am_at M b = some z) ∨ (b = am_len M ∧ z = .inr (60, [])) := by
    intro b z hb
    have hb : am_at (am_new M 0 (.inr (60, []))) b = some z := hb
    rcases Nat.lt_or_ge b (am_len M) with h | h
    · rw [am_at_new_old h] at hb
      exact Or.inl ⟨h, hb⟩
    · have h1 := am_at_lt hb
      rw [am_len_new] at h1
      have h2 : b = am_len M := by omega
      subst h2
      rw [am_at_new_self] at hb
      exact Or.inr ⟨rfl, (Option.some.inj hb).symm⟩
  obtain ⟨⟨ws, hP, hD, hcov⟩, w2, w3, w4, w5, w6, w7⟩ := hW
  refine ⟨⟨ws, hP.kept (fun k z hz => hq _ (hP k z hz).lt), hD, fun b z hb hz => ?_⟩, fun b b2 z z2 hb hz hb2 hz2 heq => ?_, fun b hb => ?_, fun b hb => ?_, w5, ?_, fun b z hb hbz => ?_⟩
  · rcases cases' b z hb with ⟨h1, h2⟩ | ⟨h1, h2⟩
    · rw [as_e_ren (hM.1 b z h2) hren]
      show ((if b = am_len M then q else r b), _) ∈ _
      rw [hren b h1]
      exact hcov b z h2 hz
    · subst h2
      exact absurd hz (by decide)
  · have heq : (if b = am_len M then q else r b) = (if b2 = am_len M then q else r b2) := heq
    rcases cases' b z hb with ⟨h1, h2⟩ | ⟨h1, h2⟩ <;> rcases cases' b2 z2 hb2 with ⟨h3, h4⟩ | ⟨h3, h4⟩
    · rw [hren b h1, hren b2 h3] at heq
      exact w2 b b2 z z2 h2 hz h4 hz2 heq
    · subst h4
      rcases hz2 with h5 | h5
      · exact absurd h5 (by decide)
      · exact absurd h5.1 (by omega)
    · subst h2
      exact absurd hz (by decide)
    · omega
  · show (if b = am_len M then q else r b) = _
    rw [hren b (by omega)]
    exact w3 b hb
  · have e : am_at (M.1 + x, M.2.1 + y, M.2.2.1, M.2.2.2 ++ [.inr (60, [])]) b = am_at M b := am_at_new_old (n := 0) (by omega)
    rw [e]
    exact w4 b hb
  · show 100 ≤ (M.2.2.2 ++ [(.inr (60, []) : am_E)]).length
    rw [List.length_append]
    exact Nat.le_trans w6 (Nat.le_add_right _ _)
  · rcases cases' b z hbz with ⟨h1, h2⟩ | ⟨h1, h2⟩
    · exact w7 b z hb h2
    · exact Or.inr h2
theorem as_bldx (hd : decode cc pc = .ok (.baload, 1)) : as_OK Y yn cc mx rt hh pc (am_bldx (pc + 1)) := by
  intro p l e R s m args below meth c G M0 o r0 d hK hC L S M hcl
  obtain ⟨hx, hcc, hr, hml, hts, hown, hlocks, hname, htr, hF, hR, htab⟩ := hC
  unfold am_bldx
  split
  · rename_i i a S'
    split
    · rename_i n f he
      split
      · rename_i hi
        refine as_same (fun r H locs ls hW hS hL hk => ?_)
        obtain ⟨ws, q0, hP, hD, hq, -⟩ := hW.cell he rfl
        exact va_bald hx hcc hF.1 hP q0 1 hq rfl (as_in hi) hd (hk ls hL)
      · rename_i hi
        split
        · rename_i hcon
          simp only [Bool.and_eq_true, decide_eq_true_eq] at hcon
          obtain ⟨⟨⟨g1, g2⟩, g3⟩, hw⟩ := hcon
          intro hj
          obtain ⟨⟨z1, z2, z3⟩, hj⟩ := hj
          have z1 : M.1 + 3 ≤ o.2.1 := z1
          have z2 : M.2.1 + 1010 ≤ o.2.2.1 := z2
          have z3 : am_len (am_new M 0 (.inr (60, []))) ≤ am_len o.2 := z3
          rw [am_len_new] at z3
          refine ⟨⟨by omega, by omega, by omega⟩, fun r H locs ls hW hr hS hL hY => ?_⟩
          obtain ⟨y1, y2, y3⟩ := hY
          obtain ⟨ws, q0, hP, hD, hq, -⟩ := hW.cell he rfl
          have hout : ¬ vp_in i n := by
            intro h
            unfold vp_in at h
            unfold am_ins at hi
            simp only [Bool.not_eq_true', Bool.or_eq_false_iff, decide_eq_false_iff_not, not_and] at hi
            exact hi (fun h1 => h (Or.inl h1)) (fun h1 => h (Or.inr h1))
          refine vx_baldZ hx hcc hF.1 hP q0 1 hq rfl hout hd (fun tx htx => ?_)
          have hwr := as_w8 (r := r) hw
          have r1 := hR.1
          have r2 := hR.2.1
          have r3 := hR.2.2.1
          have r4 := hR.2.2.2
          refine vx_vm (names := as_nmX) (nb := 1000) (A := as_A G) hx htr (by decide +kernel) (by decide +kernel) (by decide +kernel) (by decide +kernel) (as_hat (U := s) hts hF) as_atX3 hF.2.2.2.2.2.2.2.2.2.2.2.2.2.1 hF.2.2.2.2.2.2.2.2.2.2.2.2.2.2 hS (by rw [hml]; exact hL.2.1) (by rw [htx]; exact index_text_modelled i n) (by rw [htx]; exact Nat.le_trans (index_text_bytes i (by omega)) (by decide)) (Nat.le_refl _) (by show 7 < R.frames; omega) (by omega) (by decide) (by omega) (by omega) hlocks (fun H1 q9 ce k1 k2 k3 k4 k5 k6 => ?_)
          have hren : ∀ a, a < am_len M → (if a = am_len M then q9 else r a) = r a := fun a ha => if_neg (by omega)
          have e1 : am_cls (M.1 + 3, M.2.1 + 1010, M.2.2.1, M.2.2.2 ++ [.inr (60, [])]) (am_len M) = 60 := by
            have e2 : am_at (M.1 + 3, M.2.1 + 1010, M.2.2.1, M.2.2.2 ++ [.inr (60, [])]) (am_len M) = some (.inr (60, [])) := am_at_new_self (n := 0)
            unfold am_cls
            rw [e2]
          have w := hj (fun b => if b = am_len M then q9 else r b) H1 locs ls (S'.map (as_v r)) ce (as_thrown hcl.1 hW k1 k2) (fun a ha => (hren a (Nat.lt_of_lt_of_le ha y3)).trans (hr a ha)) k3 (hL.ren (fun k v hkv => as_v_ren (hcl.2.1 k v hkv) hren)) ⟨by show M0.1 ≤ M.1 + 3; omega, by show M0.2.1 ≤ M.2.1 + 1010; omega, by show am_len M0 ≤ am_len (am_new M 0 (.inr (60, []))); rw [am_len_new]; omega⟩ (by show H1[(if am_len M = am_len M then q9 else r (am_len M))]? = some ce; rw [if_pos rfl]; exact k4) k5 (by rw [e1]; exact k6)
          have a1 : (M.1 + 3, M.2.1 + 1010, M.2.2.1, M.2.2.2 ++ [(.inr (60, []) : am_E)]).1 - M0.1 = M.1 - M0.1 + 3 := by show M.1 + 3 - M0.1 = _; omega
          have a2 : (M.1 + 3, M.2.1 + 1010, M.2.2.1, M.2.2.2 ++ [(.inr (60, []) : am_E)]).2.1 - M0.2.1 = M.2.1 - M0.2.1 + (1000 + 10) := by show M.2.1 + 1010 - M0.2.1 = _; omega
          rw [a1, a2] at w
          rw [if_pos rfl] at w
          exact w
        · trivial
    · trivial
  · trivial
end ASB
