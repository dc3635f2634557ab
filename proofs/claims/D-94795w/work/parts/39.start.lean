/-! Soundness of AM: the start, the end, the claim -/
set_option maxRecDepth 100000
def am_fo (L : Nat) (xs : Nat → Int32) : List am_E := (List.range 100).map (fun a => if a = 0 then .inl (50, L, .inl xs) else if a = 1 then .inl (51, 0, .inr (.inr (.inr (.inr (fun _ => none))))) else if a < 10 ∨ 62 ≤ a then .inr (60, []) else if a % 2 = 0 then .inr (50, [.ref (a + 1), .int 0]) else .inl (52, as_slen ((a - 11) / 2), .inl (as_byte ((a - 11) / 2))))
def am_M0 (L : Nat) (xs : Nat → Int32) (u v w : Value) : am_M := (0, 0, [.ref 1, u, v, .int 1, w], am_fo L xs)
/-- a static's abstract value: null or some foreign thing -/
def am_rn (v : Value) : Prop := v = .null ∨ ∃ a, a < 100 ∧ v = .ref a
theorem am_fo_at {L : Nat} {xs : Nat → Int32} {a : Nat} (h : a < 100) : (am_fo L xs)[a]? = some (if a = 0 then .inl (50, L, .inl xs) else if a = 1 then .inl (51, 0, .inr (.inr (.inr (.inr (fun _ => none))))) else if a < 10 ∨ 62 ≤ a then .inr (60, []) else if a % 2 = 0 then .inr (50, [.ref (a + 1), .int 0]) else .inl (52, as_slen ((a - 11) / 2), .inl (as_byte ((a - 11) / 2)))) := by
  unfold am_fo
  rw [List.getElem?_map, List.getElem?_range h]
  rfl
theorem am_fo_s {L : Nat} {xs : Nat → Int32} {i : Nat} (h : i < 26) : (am_fo L xs)[10 + 2 * i]? = some (.inr (50, [.ref (11 + 2 * i), .int 0])) := by
  rw [am_fo_at (by omega), if_neg (by omega), if_neg (by omega), if_neg (by omega), if_pos (by omega), show 10 + 2 * i + 1 = 11 + 2 * i by omega]
theorem am_fo_b {L : Nat} {xs : Nat → Int32} {i : Nat} (h : i < 26) : (am_fo L xs)[11 + 2 * i]? = some (.inl (52, as_slen i, .inl (as_byte i))) := by
  rw [am_fo_at (by omega), if_neg (by omega), if_neg (by omega), if_neg (by omega), if_neg (by omega), show (11 + 2 * i - 11) / 2 = i by omega]
theorem am_fo_len {L : Nat} {xs : Nat → Int32} : (am_fo L xs).length = 100 := by simp [am_fo]
theorem am_fo_ok {L : Nat} {xs : Nat → Int32} {a : Nat} {e : am_E} (h : (am_fo L xs)[a]? = some e) : as_real e = false ∧ as_fk a e := by
  have ha : a < 100 := by
    have := (List.getElem?_eq_some_iff.mp h).1
    rwa [am_fo_len] at this
  rw [am_fo_at ha] at h
  have h := Option.some.inj h
  subst h
  by_cases h0 : a = 0
  · rw [if_pos h0]
    exact ⟨rfl, Or.inl ⟨rfl, h0⟩⟩
  rw [if_neg h0]
  by_cases h1 : a = 1
  · rw [if_pos h1]
    exact ⟨rfl, Or.inr (Or.inl ⟨rfl, h1⟩)⟩
  rw [if_neg h1]
  by_cases h2 : a < 10 ∨ 62 ≤ a
  · rw [if_pos h2]
    exact ⟨rfl, fun h => absurd h (by decide)⟩
  rw [if_neg h2]
  by_cases h3 : a % 2 = 0
  · rw [if_pos h3]
    exact ⟨rfl, fun _ => ⟨(a - 10) / 2, by omega, by omega⟩⟩
  · rw [if_neg h3]
    exact ⟨rfl, Or.inr (Or.inr ⟨rfl, (a - 11) / 2, by omega, by omega⟩)⟩
theorem am_M0_cl {L : Nat} {xs : Nat → Int32} {u v w : Value} (hu : am_rn u) (hv : am_rn v) (hw : am_rn w) : am_cM (am_M0 L xs u v w) := by
  have hl : am_len (am_M0 L xs u v w) = 100 := am_fo_len
  have hrn : ∀ z, am_rn z → am_cv 100 z := by
    intro z hz a e
    rcases hz with rfl | ⟨b, hb, rfl⟩
    · cases e
    · cases e; exact hb
  refine ⟨fun a e h => ?_, fun z hz => ?_, by rw [hl]; exact Nat.le_refl _⟩
  · rw [hl]
    have h : (am_fo L xs)[a]? = some e := h
    have ha : a < 100 := by
      have := (List.getElem?_eq_some_iff.mp h).1
      rwa [am_fo_len] at this
    rw [am_fo_at ha] at h
    have h := Option.some.inj h
    subst h
    by_cases h0 : a = 0
    · rw [if_pos h0]; exact am_cE_int
    rw [if_neg h0]
    by_cases h1 : a = 1
    · rw [if_pos h1]
      intro f hf k b hb
      cases hf
      cases hb
    rw [if_neg h1]
    by_cases h2 : a < 10 ∨ 62 ≤ a
    · rw [if_pos h2]
      intro z hz
      cases hz
    rw [if_neg h2]
    by_cases h3 : a % 2 = 0
    · rw [if_pos h3]
      intro z hz b e
      rcases List.mem_cons.mp hz with rfl | hz
      · cases e; omega
      · rcases List.mem_cons.mp hz with rfl | hz
        · cases e
        · cases hz
    · rw [if_neg h3]; exact am_cE_int
  · rw [hl]
    have hz : z ∈ [Value.ref 1, u, v, .int 1, w] := hz
    simp only [List.mem_cons, List.not_mem_nil, or_false] at hz
    rcases hz with rfl | rfl | rfl | rfl | rfl
    · exact am_cv_ref (by omega)
    · exact hrn _ hu
    · exact hrn _ hv
    · exact am_cv_int
    · exact hrn _ hw
/-! what the tables give -/
theorem as_tyP {s : State} {args : Array Value} {ty : FieldType} (hp : ∀ (U : State) (cA : ClassId), U.vm.findClass ("[" ++ ty.toString) = some cA → va_RA U cA ty) (h : (Cond.arrayClass ty).before args s = true) : ∃ cA, ArrOfT s cA ty ∧ va_RA s cA ty := by
  obtain ⟨c, k, comp, h1, h2, h3⟩ := Cond.arrayClass_spec h
  exact ⟨c, fun N z => ⟨(fun k h => by cases h), k, h2, comp, h3⟩, hp s c h1⟩
theorem as_tyO {s : State} {args : Array Value} {n : String} (h : (Cond.arrayOver (.object n)).before args s = true) : ∃ cA, ArrOfT s cA (.object n) ∧ va_RA s cA (.object n) := by
  obtain ⟨comp, c, k, h1, h2, h3, h4, h5⟩ := Cond.arrayOver_spec h
  exact ⟨c, fun N z => ⟨(fun k h => by cases h), k, h3, comp, h4⟩, k, comp, h3, h4, h1, h5⟩
theorem as_dAof {s : State} {args : Array Value} (hts : ∀ w ∈ lw_all, w.before args s = true) (hao : ∀ C ∈ as_ao, (Cond.arrayOver (.object C)).before args s = true) : ∃ dA : Nat → ClassId, ∀ (k : Nat) (q : ClassId × FieldType), (as_tys dA)[k]? = some q → ArrOfT s q.1 q.2 ∧ va_RA s q.1 q.2 := by
  obtain ⟨c0, h0⟩ := as_tyP (fun _ _ h => h) (hts _ q199)
  obtain ⟨c1, h1⟩ := as_tyP (fun _ _ h => h) (hts _ q263)
  obtain ⟨c2, h2⟩ := as_tyP (fun _ _ h => h) (hts _ q318)
  obtain ⟨c3, h3⟩ := as_tyP (fun _ _ h => h) (hts _ q221)
  obtain ⟨c4, h4⟩ := as_tyO (hao "java/lang/Object" (by decide))
  obtain ⟨c5, h5⟩ := as_tyO (hao "FiveTouch$Yard" (by decide))
  obtain ⟨c6, h6⟩ := as_tyO (hao "FiveTouch$Clause" (by decide))
  obtain ⟨c7, h7⟩ := as_tyO (hao "FiveTouch$Test" (by decide))
  obtain ⟨c8, h8⟩ := as_tyO (hao "java/lang/String" (by decide))
  refine ⟨fun k => match k with | 0 => c0 | 1 => c1 | 2 => c2 | 3 => c3 | 4 => c4 | 5 => c5 | 6 => c6 | 7 => c7 | _ => c8, fun k q hq => ?_⟩
  have hm := List.mem_of_getElem? hq
  have key : ∀ q ∈ [(c0, (.int : FieldType)), (c1, .byte), (c2, .boolean), (c3, .long), (c4, .object "java/lang/Object"), (c5, .object "FiveTouch$Yard"), (c6, .object "FiveTouch$Clause"), (c7, .object "FiveTouch$Test"), (c8, .object "java/lang/String")], ArrOfT s q.1 q.2 ∧ va_RA s q.1 q.2 := as_n1 h0 (as_n1 h1 (as_n1 h2 (as_n1 h3 (as_n1 h4 (as_n1 h5 (as_n1 h6 (as_n1 h7 (as_n1 h8 as_n0))))))))
  exact key q hm
theorem as_clof {s : State} {args : Array Value} (hts : ∀ w ∈ lw_all, w.before args s = true) : ∃ D : va_G, ∀ (c : Nat) (q : vw_C), as_cl[c]? = some q → u_Kn s q.1 q.2.1 q.2.2 (D.1 c) (D.2 c) := by
  have key : ∀ q ∈ as_cl, ∃ (cC : ClassId) (iS : Nat → Nat), u_Kn s q.1 q.2.1 q.2.2 cC iS := (as_n1 (u_known hts in_X0 (hts _ q129)) (as_n1 (u_known hts in_X1 (hts _ q137)) (as_n1 (u_known hts in_X2 (hts _ q202)) (as_n1 (u_known hts in_X3 (hts _ q223)) (as_n1 (u_known hts in_X4 (hts _ q235)) (as_n1 (u_known hts in_X5 (hts _ q1368)) (as_n1 (u_known hts in_X6 (hts _ q354)) (as_n1 (u_known hts in_X7 (hts _ q629)) (as_n1 (u_known hts in_X8 (hts _ q696)) (as_n1 (u_known hts in_X0 (hts _ q129)) (as_n1 (u_known hts in_X10 (hts _ q808)) (as_n1 (u_known hts in_X11 (hts _ q825)) (as_n1 (u_known hts in_X12 (hts _ q837)) (as_n1 (u_known hts in_X0 (hts _ q129)) (as_n1 (u_known hts in_X14 (hts _ q874)) (as_n1 (u_known hts in_X15 (hts _ q893)) (as_n1 (u_known hts in_X16 (hts _ q913)) (as_n1 (u_known hts in_X17 (hts _ q926)) (as_n1 (u_known hts in_X0 (hts _ q129)) (as_n1 (u_known hts in_X19 (hts _ q1125)) (as_n1 (u_known hts in_X20 (hts _ q1218)) (as_n1 (u_known hts in_X21 (hts _ q1250)) (as_n1 (u_known hts in_X22 (hts _ q1276)) (as_n1 (u_known hts in_X23 (hts _ q1312)) (as_n1 (u_known hts in_X0 (hts _ q129)) (as_n1 (u_known hts in_X0 (hts _ q129)) (as_n1 (u_known hts in_X0 (hts _ q129)) (as_n1 (u_known hts in_X0 (hts _ q129)) (as_n1 (u_known hts in_X0 (hts _ q129)) (as_n1 (u_known hts in_X0 (hts _ q129)) (as_n1 (u_known hts in_J2 (hts _ q143)) as_n0)))))))))))))))))))))))))))))))
  have h0 : ∀ c : Nat, ∃ z : ClassId × (Nat → Nat), ∀ q : vw_C, as_cl[c]? = some q → u_Kn s q.1 q.2.1 q.2.2 z.1 z.2 := by
    intro c
    cases h : as_cl[c]? with
    | none => exact ⟨(0, fun _ => 0), fun q hq => by cases hq⟩
    | some q =>
      obtain ⟨cC, iS, hk⟩ := key q (List.mem_of_getElem? h)
      exact ⟨(cC, iS), fun q' hq' => by cases hq'; exact hk⟩
  obtain ⟨f, hf⟩ := Classical.axiomOfChoice h0
  exact ⟨(fun c => (f c).1, fun c => (f c).2), hf⟩
abbrev as_tm (i : Nat) : Term := .string "FiveTouch$Reader" (as_strs.getD i (0, "")).1
abbrev as_nar1 : List Cond := flatC (Jvm.Cond.and given_1 narrow_1)
theorem as_sX1 : ∀ i, i < 26 → Cond.exactly (as_tm i) "java/lang/String" ∈ as_nar1 := by decide +kernel
theorem as_sX2 : ∀ i, i < 26 → Cond.eq (.field (as_tm i) "java/lang/String" "coder" "B") (.int 0) ∈ as_nar1 := by decide +kernel
theorem as_sX3 : ∀ i, i < 26 → Cond.arrayOf (.field (as_tm i) "java/lang/String" "value" "[B") .byte ∈ as_nar1 := by decide +kernel
theorem as_sX4 : ∀ i, i < 26 → Cond.eq (.length (.field (as_tm i) "java/lang/String" "value" "[B")) (.int (Int32.ofNat (as_slen i))) ∈ as_nar1 := by decide +kernel
theorem as_sX5 : ∀ i, i < 26 → ∀ j, j < as_slen i → Cond.eq (.elem (.field (as_tm i) "java/lang/String" "value" "[B") (.int (Int32.ofNat j))) (.int (as_byte i j)) ∈ as_nar1 := by decide +kernel
theorem as_sX6 : ∀ i, i < 26 → Cond.stringRef "FiveTouch$Reader" (as_strs.getD i (0, "")).1 (as_strs.getD i (0, "")).2 ∈ lw_tbl := by decide +kernel
theorem as_sX7 : ∀ i, i < 26 → as_slen i < 2 ^ 31 := by decide +kernel
theorem as_sof {args : Array Value} {s : State} {A : Nat → Prop} (hts : ∀ w ∈ lw_tbl, w.before args s = true) (hn : ∀ w ∈ as_nar1, w.before args s = true) (hA : ∀ a : Nat, a < s.heap.size → ¬ A a) :
    ∃ adK adV : Nat → Nat, ∀ i : Nat, i < 26 → va_O "java/lang/String" (adK i) A s s.heap ∧ va_OF "java/lang/String" "coder" "B" (.int 0) (adK i) A s s.heap ∧ va_OF "java/lang/String" "value" "[B" (.ref (adV i)) (adK i) A s s.heap ∧ va_T .byte (adV i) (as_slen i) (fun j => .int (as_byte i j)) A s s.heap ∧ vk_R "FiveTouch$Reader" (as_strs.getD i (0, "")).1 (as_strs.getD i (0, "")).2 (adK i) s := by
  have h0 : ∀ i : Nat, ∃ q : Nat × Nat, i < 26 → va_O "java/lang/String" q.1 A s s.heap ∧ va_OF "java/lang/String" "coder" "B" (.int 0) q.1 A s s.heap ∧ va_OF "java/lang/String" "value" "[B" (.ref q.2) q.1 A s s.heap ∧ va_T .byte q.2 (as_slen i) (fun j => .int (as_byte i j)) A s s.heap ∧ vk_R "FiveTouch$Reader" (as_strs.getD i (0, "")).1 (as_strs.getD i (0, "")).2 q.1 s := by
    intro i
    by_cases hi : i < 26
    · obtain ⟨a, c, cA, kA, q1, q2, q3, q4, q5, q6, -⟩ := Cond.exactly_spec (args := args) (first := s) (o := none) (s := s) (idx := []) (t := as_tm i) (cls := "java/lang/String") (hn _ (as_sX1 i hi))
      obtain ⟨t, ht, hT⟩ := va_Tof (f := fun j => .int (as_byte i j)) (A := A) (as_sX7 i hi) (hn _ (as_sX3 i hi)) (va_eqt (hn _ (as_sX4 i hi))) (fun j hj => va_eqt (hn _ (as_sX5 i hi j hj))) hA
      exact ⟨(a, t), fun _ => ⟨⟨cA, q3, q5, by rw [q6]; exact q2, hA a (Array.getElem?_eq_some_iff.mp q3).1⟩, vk_OFof q1 (va_eqt (hn _ (as_sX2 i hi))) hA, vk_OFof q1 ht hA, hT, vk_R.of (hts _ (as_sX6 i hi)) q1⟩⟩
    · exact ⟨(0, 0), fun h => absurd h hi⟩
  obtain ⟨ad, had⟩ := Classical.axiomOfChoice h0
  exact ⟨fun i => (ad i).1, fun i => (ad i).2, had⟩
/-- a static that is a reference or null -/
theorem as_stof {args : Array Value} {s : State} {A : Nat → Prop} {C n d : String} (k : Nat) (hk : k < 100) (hl : (Cond.laysStatic C n d).before args s = true) (hini : (Cond.initialized C).before args s = true) (h : (Cond.isRef (.static C n d)).before args s = true) (hA : ∀ a : Nat, a < s.heap.size → ¬ A a) : ∃ (v : Value) (q : Nat), am_rn v ∧ ∀ r : Nat → Nat, r k = q → va_Z C n d (as_v r v) A s s.heap := by
  rcases va_Zqof hl hini h hA with h1 | ⟨t, h1⟩
  · exact ⟨.null, 0, Or.inl rfl, fun r _ => h1⟩
  · exact ⟨.ref k, t, Or.inr ⟨k, hk, rfl⟩, fun r hr => by show va_Z C n d (.ref (r k)) A s s.heap; rw [hr]; exact h1⟩
theorem as_wF : ∀ w ∈ as_nwF, Cond.fieldLinkNest w.1 w.2.1 w.2.2.1 w.2.2.2.1 w.2.2.2.2.1 w.2.2.2.2.2 ∈ lw_tbl := by decide +kernel
theorem as_wM : ∀ w ∈ as_nwM, Cond.methodLinkNest w.1 w.2.1 w.2.2.1 w.2.2.2 ∈ lw_tbl := by decide +kernel
theorem as_wC : ∀ w ∈ as_nwC, Cond.castable w.1 w.2 ∈ lw_tbl := by decide +kernel
theorem as_wD : ∀ w ∈ as_nwD, Cond.declares w ∈ lw_tbl := by decide +kernel
theorem as_wA : ∀ C ∈ as_ao, Cond.arrayOver (.object C) ∈ lw_tbl := by decide +kernel
def as_fr (b qD mi qU qS qF : Nat) (adK adV : Nat → Nat) (a : Nat) : Nat := if a = 0 then b else if a = 1 then qD else if a = 2 then mi else if a = 3 then qU else if a = 4 then qS else if a = 5 then qF else if a % 2 = 0 then adK ((a - 10) / 2) else adV ((a - 11) / 2)
theorem as_init {args : Array Value} {s : State} {b L : Nat} {xs : Nat → Int32} (hL : L ≤ 384) (hts : ∀ w ∈ lw_tbl, w.before args s = true) (hX : va_X b L xs s s.heap) (hb : b < s.heap.size) (hg : (Jvm.Cond.and given_1 narrow_1).before args s = true) :
    ∃ (G : as_P) (u v w : Value), am_rn u ∧ am_rn v ∧ am_rn w ∧ as_F G s s.heap ∧ as_W G G.2.2.1 (am_M0 L xs u v w) s.heap ∧ G.2.2.1 0 = b ∧ G.2.2.2.1 = s.heap.size := by
  have hn : ∀ w ∈ as_nar1, w.before args s = true := flat_of_before _ hg
  have htl : ∀ w ∈ lw_all, w.before args s = true := fun w hw => hts w (lw_all_tbl hw)
  have hA : ∀ a : Nat, a < s.heap.size → ¬ (fun q => s.heap.size ≤ q) a := fun a ha h => absurd ha (Nat.not_lt.mpr h)
  obtain ⟨D, hD⟩ := as_clof htl
  obtain ⟨dA, hdA⟩ := as_dAof htl (fun C hC => hts _ (as_wA C hC))
  obtain ⟨adK, adV, hS⟩ := as_sof (A := fun q => s.heap.size ≤ q) hts hn hA
  obtain ⟨qD, hqD, hTD⟩ := va_Tof (N := 0) (f := fun _ => .null) (A := fun q => s.heap.size ≤ q) (tm := .static "java/util/ArrayList" "DEFAULTCAPACITY_EMPTY_ELEMENTDATA" "[Ljava/lang/Object;") (ty := .object "java/lang/Object") (by decide) (hn _ (by decide +kernel)) (va_eqt (hn (.eq (.length (.static "java/util/ArrayList" "DEFAULTCAPACITY_EMPTY_ELEMENTDATA" "[Ljava/lang/Object;")) (.int 0)) (by decide +kernel))) (fun j hj => absurd hj (Nat.not_lt_zero _)) hA
  have hZD := va_Zof (A := fun q => s.heap.size ≤ q) (hts (.laysStatic "java/util/ArrayList" "DEFAULTCAPACITY_EMPTY_ELEMENTDATA" "[Ljava/lang/Object;") (by decide +kernel)) (hts (.initialized "java/util/ArrayList") (by decide +kernel)) hqD hA
  obtain ⟨mi, hMi⟩ := va_Mi.of (hn (.isRef (.mirror "[Ljava/lang/Object;")) (by decide +kernel))
  obtain ⟨u, qU, hu, hZU⟩ := as_stof (A := fun q => s.heap.size ≤ q) 3 (by decide) (hts (.laysStatic "java/lang/Throwable" "UNASSIGNED_STACK" "[Ljava/lang/StackTraceElement;") (by decide +kernel)) (hts (.initialized "java/lang/Throwable") (by decide +kernel)) (hn _ (by decide +kernel)) hA
  obtain ⟨v, qS, hv, hZS⟩ := as_stof (A := fun q => s.heap.size ≤ q) 4 (by decide) (hts (.laysStatic "java/lang/Throwable" "SUPPRESSED_SENTINEL" "Ljava/util/List;") (by decide +kernel)) (hts (.initialized "java/lang/Throwable") (by decide +kernel)) (hn _ (by decide +kernel)) hA
  obtain ⟨w, qF, hw, hZF⟩ := as_stof (A := fun q => s.heap.size ≤ q) 5 (by decide) (hts (.laysStatic "jdk/internal/util/Preconditions" "SIOOBE_FORMATTER" "Ljava/util/function/BiFunction;") (by decide +kernel)) (hts (.initialized "jdk/internal/util/Preconditions") (by decide +kernel)) (hn _ (by decide +kernel)) hA
  have hZC := va_Zof (A := fun q => s.heap.size ≤ q) (hts (.laysStatic "java/lang/String" "COMPACT_STRINGS" "Z") (by decide +kernel)) (hts (.initialized "java/lang/String") (by decide +kernel)) (va_eqt (hn (.eq (.static "java/lang/String" "COMPACT_STRINGS" "Z") (.int 1)) (by decide +kernel))) hA
  have hV1 := vx_Zqof (A := fun q => s.heap.size ≤ q) (C := Bundle.tN) (n := "UNASSIGNED_STACK") (d := Bundle.steD) (hts _ (by decide +kernel)) (hts _ (by decide +kernel)) (hn _ (by decide +kernel)) hA
  have hV2 := vx_Zqof (A := fun q => s.heap.size ≤ q) (C := Bundle.tN) (n := "SUPPRESSED_SENTINEL") (d := Bundle.listD) (hts _ (by decide +kernel)) (hts _ (by decide +kernel)) (hn _ (by decide +kernel)) hA
  have fK : ∀ i, i < 26 → as_fr b qD mi qU qS qF adK adV (10 + 2 * i) = adK i := fun i hi => by
    unfold as_fr
    rw [if_neg (by omega), if_neg (by omega), if_neg (by omega), if_neg (by omega), if_neg (by omega), if_neg (by omega), if_pos (by omega), show (10 + 2 * i - 10) / 2 = i by omega]
  have fV : ∀ i, i < 26 → as_fr b qD mi qU qS qF adK adV (11 + 2 * i) = adV i := fun i hi => by
    unfold as_fr
    rw [if_neg (by omega), if_neg (by omega), if_neg (by omega), if_neg (by omega), if_neg (by omega), if_neg (by omega), if_neg (by omega), show (11 + 2 * i - 11) / 2 = i by omega]
  have hrn : ∀ z, am_rn z → am_cv 100 z := by
    intro z hz a e
    rcases hz with rfl | ⟨c, hc, rfl⟩
    · cases e
    · cases e; exact hc
  refine ⟨(D, dA, as_fr b qD mi qU qS qF adK adV, s.heap.size, am_fo L xs, [.ref 1, u, v, .int 1, w]), u, v, w, hu, hv, hw, ⟨⟨hD, hdA⟩, fun w hw => va_Nw.of rfl (hts _ (as_wF w hw)), fun w hw => va_Nw.of rfl (hts _ (as_wM w hw)), fun w hw => va_Nw.of rfl (hts _ (as_wC w hw)), fun w hw => va_Nw.of rfl (hts _ (as_wD w hw)), fun C hC => va_AO.of (va_any rfl (hts _ (as_wA C hC))), Nat.le_refl _, ⟨am_fo_len, fun a e h => am_fo_ok h, fun a e ha h hne => ?_, fun z hz => ?_⟩, ⟨L, xs, am_fo_at (by decide), hL, hX, hA b hb⟩, ⟨am_fo_at (by decide), hTD⟩, hMi, fun k q hk => ?_, fun i hi => ?_, hV1, hV2⟩, ⟨⟨[], fun k q h => (by cases h), ⟨fun i j p q h => (by cases h), fun k q h => (by cases h)⟩, fun a e h hr => ?_⟩, fun a c e x h hr => ?_, fun _ _ => rfl, fun _ _ => rfl, rfl, by show 100 ≤ (am_fo L xs).length; rw [am_fo_len]; exact Nat.le_refl _, fun a e ha h => ?_⟩, rfl, rfl⟩
  · have h : (am_fo L xs)[a]? = some e := h
    show as_fr b qD mi qU qS qF adK adV a < s.heap.size
    rw [am_fo_at ha] at h
    have h := Option.some.inj h
    subst h
    by_cases h0 : a = 0
    · subst h0; exact hb
    rw [if_neg h0] at hne
    by_cases h1 : a = 1
    · subst h1
      obtain ⟨cell, hc, -⟩ := hTD
      exact (Array.getElem?_eq_some_iff.mp hc).1
    rw [if_neg h1] at hne
    by_cases h2 : a < 10 ∨ 62 ≤ a
    · rw [if_pos h2] at hne
      exact absurd rfl hne
    by_cases h3 : a % 2 = 0
    · obtain ⟨⟨cell, hc, -⟩, -⟩ := hS ((a - 10) / 2) (by omega)
      have := fK ((a - 10) / 2) (by omega)
      rw [show 10 + 2 * ((a - 10) / 2) = a by omega] at this
      rw [this]
      exact (Array.getElem?_eq_some_iff.mp hc).1
    · obtain ⟨-, -, -, ⟨cell, hc, -⟩, -⟩ := hS ((a - 11) / 2) (by omega)
      have := fV ((a - 11) / 2) (by omega)
      rw [show 11 + 2 * ((a - 11) / 2) = a by omega] at this
      rw [this]
      exact (Array.getElem?_eq_some_iff.mp hc).1
  · have hz : z ∈ [Value.ref 1, u, v, .int 1, w] := hz
    simp only [List.mem_cons, List.not_mem_nil, or_false] at hz
    rcases hz with rfl | rfl | rfl | rfl | rfl
    · exact am_cv_ref (by omega)
    · exact hrn _ hu
    · exact hrn _ hv
    · exact am_cv_int
    · exact hrn _ hw
  · match k, hk with
    | 0, hk => cases hk; exact ⟨_, rfl, hZD⟩
    | 1, hk => cases hk; exact ⟨_, rfl, hZU _ rfl⟩
    | 2, hk => cases hk; exact ⟨_, rfl, hZS _ rfl⟩
    | 3, hk => cases hk; exact ⟨_, rfl, hZC⟩
    | 4, hk => cases hk; exact ⟨_, rfl, hZF _ rfl⟩
    | k + 5, hk => cases hk
  · obtain ⟨s1, s2, s3, s4, s5⟩ := hS i hi
    show (am_fo L xs)[10 + 2 * i]? = _ ∧ (am_fo L xs)[11 + 2 * i]? = _ ∧ va_O "java/lang/String" (as_fr b qD mi qU qS qF adK adV (10 + 2 * i)) _ s s.heap ∧ va_OF "java/lang/String" "coder" "B" (.int 0) (as_fr b qD mi qU qS qF adK adV (10 + 2 * i)) _ s s.heap ∧ va_OF "java/lang/String" "value" "[B" (.ref (as_fr b qD mi qU qS qF adK adV (11 + 2 * i))) (as_fr b qD mi qU qS qF adK adV (10 + 2 * i)) _ s s.heap ∧ va_T .byte (as_fr b qD mi qU qS qF adK adV (11 + 2 * i)) (as_slen i) _ _ s s.heap ∧ vk_R "FiveTouch$Reader" _ _ (as_fr b qD mi qU qS qF adK adV (10 + 2 * i)) s
    rw [fK i hi, fV i hi]
    exact ⟨am_fo_s hi, am_fo_b hi, s1, s2, s3, s4, s5⟩
  · have h : (am_fo L xs)[a]? = some e := h
    rw [(am_fo_ok h).1] at hr
    cases hr
  · have h : (am_fo L xs)[a]? = some e := h
    rw [(am_fo_ok h).1] at hr
    cases hr
  · have h : (am_fo L xs)[a]? = some e := h
    have := (List.getElem?_eq_some_iff.mp h).1
    rw [am_fo_len] at this
    omega
/-- locs of new things say nothing -/
theorem as_drop {s t : State} {L : List Loc} {k n k' n' : Nat} (h : s.sameButNew t L k n) (hL : ∀ z ∈ L, s.heap.size ≤ z.base) (hk : k ≤ k') (hn : n ≤ n') : s.sameButNew t [] k' n' := by
  obtain ⟨h1, h2, h3, h4, h5, h6⟩ := h
  refine ⟨h1, h2, Nat.le_trans h3 (Nat.add_le_add_left hk _), h4, Nat.le_trans h5 hn, fun a c hc => ?_⟩
  obtain ⟨c', e1, e2, e3, e4⟩ := h6 a c hc
  refine ⟨c', e1, e2, e3, fun i _ => e4 i (fun hm => ?_)⟩
  have h7 := hL _ hm
  have h8 := (Array.getElem?_eq_some_iff.mp hc).1
  exact absurd h8 (Nat.not_lt.mpr h7)
/-- what is left to show: AM's run of the law answers true within the room -/
def am_Goal : Prop := ∀ (L : Nat) (xs : Nat → Int32) (u v w : Value), L ≤ 384 → am_rn u → am_rn v → am_rn w → ∃ (d : Nat) (M' : am_M), d ≤ 2000 ∧ am_call (d + 1) 0 [.ref 0] (am_M0 L xs u v w) = some (.inl (some (.int 1)), M') ∧ M'.1 ≤ 603072 ∧ M'.2.1 ≤ 7194730
theorem as_law (hgoal : am_Goal) {p : Program} {e : Env} {s : State} {m : MethodId} {below : List Frame} {meth : Method} {c : Code} (l : Launch) (hflags : l.flags = flags0) {b L : Nat} {xs : Nat → Int32} (hL : L ≤ 384) (C0 : lw_At p s m meth c b L xs) (hnm : meth.name = "law") (htab : c.exceptionTable.toList = []) : W p l e room_1 s m #[Value.ref b] below meth c s.heap [] 0 0 (lw_Z below #[Value.ref b] s) (entryFrame m ([Value.ref b] : List Value).toArray 4) := by
  obtain ⟨hx, hcc, hr, hml, hown, hts, hX, hbl, hlocks, hg⟩ := C0
  have hl : l.stackTraces = false := by
    unfold Launch.stackTraces
    rw [hflags]
    decide +kernel
  obtain ⟨G, u, v, w, hu, hv, hw, hF, hW, hG0, hGB⟩ := as_init hL hts hX hbl hg
  obtain ⟨d, M', hd, hrun, hc, hs⟩ := hgoal L xs u v w hL hu hv hw
  obtain ⟨hlen, n, hn⟩ := am_call_iff'.mp hrun
  have hM := am_M0_cl (L := L) (xs := xs) hu hv hw
  have hav : ∀ z ∈ [Value.ref 0], am_cv (am_len (am_M0 L xs u v w)) z := fun z hz => by
    rcases List.mem_cons.mp hz with rfl | hz
    · exact am_cv_ref (by show 0 < (am_fo L xs).length; rw [am_fo_len]; decide)
    · cases hz
  have hcl := am_call_cl (fun y pc f hf => (ok_all y pc f hf).1)
  have hC : as_C p l e room_1 s m #[Value.ref b] below meth c G (am_M0 L xs u v w) (.inl (some (.int 1)), M') G.2.2.1 d (⟨"FiveTouchLaw", "law", "([I)Z"⟩ : MethodName) cL_law 4 (some .boolean) [] := by
    refine ⟨hx, hcc, hr, hml, fun w hw => hts w (lw_all_tbl hw), hown, hlocks, hnm, hl, hF, ⟨?_, ?_, ?_, ?_⟩, htab⟩
    · show d + 21 ≤ 8192
      omega
    · show M'.1 - 0 ≤ 603072
      omega
    · show M'.2.1 - 0 ≤ 7194730
      omega
    · show 12000 + 40 * (d + 1) ≤ 104096
      omega
  obtain ⟨ls, e1, e2⟩ := as_entry (m := m) (r0 := G.2.2.1) (mx := 4) (av := [.ref 0]) hlen
  have hj := as_runs (y := 0) (ok_Ks hl d) hC (fun pc f hf => (ok_all 0 pc f hf).1) (fun pc f hf => (ok0 pc f hf).2) rfl (as_HX0 rfl) (fun y av M o => hcl d y av M o) n 0 _ _ _ ⟨hM, am_init_cl hav, fun v hv => by cases hv⟩ hn
  have hw := hj.2 G.2.2.1 s.heap [] ls hW (fun _ _ => rfl) ⟨Nat.le_refl _, fun _ _ _ => rfl, fun z hz => by cases hz⟩ e2 ⟨Nat.le_refl _, Nat.le_refl _, Nat.le_refl _⟩
  rw [Nat.sub_self, Nat.sub_self] at hw
  have e3 : ([Value.ref b] : List Value) = [Value.ref 0].map (as_v G.2.2.1) := by
    show [Value.ref b] = [.ref (G.2.2.1 0)]
    rw [hG0]
  rw [e3, e1]
  intro T hT X
  obtain ⟨t, a1, o, b1, b2, b3⟩ := hw T hT X
  refine ⟨t, a1, o, b1, b2, ?_⟩
  rcases b3 with ⟨⟨⟨v2, r, ho, hW2, hr2, hov⟩, hF2⟩, Lc, ⟨hret, hWm, hsm⟩, hfree⟩ | ⟨q, ho, E, ce, Lc, ⟨⟨qa, r, ho2, -⟩, -⟩, -⟩
  · cases ho
    refine ⟨hov, hret, hWm, as_drop hsm (fun z hz => ?_) ?_ ?_⟩
    · have := hfree z hz
      have h9 : G.2.2.2.1 ≤ z.base := this
      rw [hGB] at h9
      exact h9
    · show M'.1 - 0 ≤ 603072
      omega
    · show M'.2.1 - 0 ≤ 7194730
      omega
  · cases ho2
