/-! Soundness of AM over the machine: worlds, contexts -/
set_option maxRecDepth 100000
def as_v (r : Nat → Nat) : Value → Value
  | .ref a => .ref (r a)
  | v => v
def as_x (r : Nat → Nat) (x : vp_A) : vp_A := (x.1, match x.2 with
  | .inl f => .inl f
  | .inr (.inl f) => .inr (.inl f)
  | .inr (.inr (.inl f)) => .inr (.inr (.inl f))
  | .inr (.inr (.inr (.inl f))) => .inr (.inr (.inr (.inl f)))
  | .inr (.inr (.inr (.inr f))) => .inr (.inr (.inr (.inr (fun k => (f k).map r)))))
def as_e (dA : Nat → ClassId) (r : Nat → Nat) : am_E → va_E
  | .inl (t, x) => .inl (dA t, as_x r x)
  | .inr (c, fs) => .inr (c, fs.map (as_v r))
def as_real : am_E → Bool
  | .inl (t, _) => decide (t < 9)
  | .inr (c, _) => decide (c < 50)
/-- classes, array classes, foreign addresses, the first own address, foreign objects, statics -/
abbrev as_P : Type := va_G × (Nat → ClassId) × (Nat → Nat) × Nat × List am_E × List Value
def as_A (G : as_P) : Nat → Prop := fun q => G.2.2.2.1 ≤ q
abbrev as_cl : List vw_C := [(RX0, TX0, 14), (RX1, TX1, 6), (RX2, TX2, 2), (RX3, TX3, 1), (RX4, TX4, 6), (RX5, TX5, 39), (RX6, TX6, 5), (RX7, TX7, 9), (RX8, TX8, 7), (RX0, TX0, 14), (RX10, TX10, 1), (RX11, TX11, 1), (RX12, TX12, 3), (RX0, TX0, 14), (RX14, TX14, 3), (RX15, TX15, 1), (RX16, TX16, 2), (RX17, TX17, 4), (RX0, TX0, 14), (RX19, TX19, 5), (RX20, TX20, 5), (RX21, TX21, 5), (RX22, TX22, 5), (RX23, TX23, 1), (RX0, TX0, 14), (RX0, TX0, 14), (RX0, TX0, 14), (RX0, TX0, 14), (RX0, TX0, 14), (RX0, TX0, 14), (RJ2, TJ2, 3)]
abbrev as_tyl : List FieldType := [.int, .byte, .boolean, .long, .object "java/lang/Object", .object "FiveTouch$Yard", .object "FiveTouch$Clause", .object "FiveTouch$Test", .object "java/lang/String"]
def as_tys (dA : Nat → ClassId) : List (ClassId × FieldType) := [(dA 0, .int), (dA 1, .byte), (dA 2, .boolean), (dA 3, .long), (dA 4, .object "java/lang/Object"), (dA 5, .object "FiveTouch$Yard"), (dA 6, .object "FiveTouch$Clause"), (dA 7, .object "FiveTouch$Test"), (dA 8, .object "java/lang/String")]
def as_W (G : as_P) (r : Nat → Nat) (M : am_M) (H : Heap) : Prop :=
  (∃ ws : va_W, va_P G.1 as_cl ws H ∧ va_D (as_A G) ws ∧ ∀ a e, am_at M a = some e → as_real e = true → (r a, as_e G.2.1 r e) ∈ ws) ∧
  (∀ a b e x, am_at M a = some e → as_real e = true → am_at M b = some x → (as_real x = true ∨ (b < 100 ∧ x ≠ .inr (60, []))) → r a = r b → a = b) ∧ (∀ a, a < 100 → r a = G.2.2.1 a) ∧ (∀ a, a < 100 → am_at M a = G.2.2.2.2.1[a]?) ∧ M.2.2.1 = G.2.2.2.2.2 ∧ 100 ≤ am_len M ∧ (∀ a e, 100 ≤ a → am_at M a = some e → as_real e = true ∨ e = .inr (60, []))
/-- the words that don't ride in the lists -/
abbrev as_nwF : List (String × Nat × String × String × String × String) := [("FiveTouch", 198, "FiveTouch$Yard", "laws", "Ljava/util/ArrayList;", "FiveTouch"), ("FiveTouch", 85, "FiveTouch$Yard", "stones", "Ljava/util/ArrayList;", "FiveTouch"), ("FiveTouch", 134, "FiveTouch$Yard", "spares", "Ljava/util/ArrayList;", "FiveTouch"), ("FiveTouch", 178, "FiveTouch$Yard", "terms", "[I", "FiveTouch"), ("FiveTouch", 101, "FiveTouch$Yard", "there", "I", "FiveTouch"), ("FiveTouch", 213, "FiveTouch$Yard", "inForce", "I", "FiveTouch"), ("FiveTouch", 221, "FiveTouch$Scene", "needs", "[I", "FiveTouch"), ("FiveTouch", 230, "FiveTouch$Scene", "near", "[I", "FiveTouch"), ("FiveTouch", 227, "FiveTouch$Scene", "bound", "I", "FiveTouch"), ("FiveTouch", 81, "FiveTouch$Scene", "isMade", "Z", "FiveTouch"), ("FiveTouch", 156, "FiveTouch$Stone", "x", "I", "FiveTouch"), ("FiveTouch", 159, "FiveTouch$Stone", "y", "I", "FiveTouch"), ("FiveTouch", 162, "FiveTouch$Stone", "wide", "I", "FiveTouch"), ("FiveTouch", 165, "FiveTouch$Stone", "tall", "I", "FiveTouch"), ("FiveTouch", 151, "FiveTouch$Stone", "facts", "[I", "FiveTouch"), ("FiveTouch", 210, "FiveTouch$Wrong", "place", "I", "FiveTouch"), ("FiveTouch", 260, "FiveTouch$Search", "best", "I", "FiveTouch"), ("FiveTouch", 255, "FiveTouch$Search", "many", "I", "FiveTouch"), ("FiveTouch$Part", 13, "FiveTouch$Asked", "numbers", "[J", "FiveTouch"), ("FiveTouch$Joined", 24, "FiveTouch$Asked", "isBroken", "Z", "FiveTouch"), ("FiveTouch$Compared", 26, "FiveTouch$Asked", "isBroken", "Z", "FiveTouch"), ("FiveTouch$Not", 17, "FiveTouch$Asked", "isBroken", "Z", "FiveTouch"), ("FiveTouch$Row", 21, "FiveTouch$Asked", "isBroken", "Z", "FiveTouch"), ("FiveTouch$Clause", 21, "FiveTouch$Asked", "isBroken", "Z", "FiveTouch"), ("FiveTouch$Search", 13, "FiveTouch", "scene", "LFiveTouch$Scene;", "FiveTouch"), ("FiveTouch$AtOnce", 19, "FiveTouch$Yard", "there", "I", "FiveTouch"), ("FiveTouch$AtOnce", 13, "FiveTouch", "yard", "LFiveTouch$Yard;", "FiveTouch"), ("FiveTouch$OneByOne", 19, "FiveTouch$Yard", "there", "I", "FiveTouch"), ("FiveTouch$OneByOne", 15, "FiveTouch", "yard", "LFiveTouch$Yard;", "FiveTouch"), ("FiveTouch$OneByOne", 25, "FiveTouch", "comes", "[Z", "FiveTouch"), ("FiveTouch$Felling", 19, "FiveTouch$Yard", "there", "I", "FiveTouch"), ("FiveTouch$Felling", 13, "FiveTouch", "yard", "LFiveTouch$Yard;", "FiveTouch"), ("FiveTouch$Mending", 19, "FiveTouch$Yard", "spares", "Ljava/util/ArrayList;", "FiveTouch"), ("FiveTouch$Mending", 39, "FiveTouch$Yard", "there", "I", "FiveTouch"), ("FiveTouch$Mending", 15, "FiveTouch", "yard", "LFiveTouch$Yard;", "FiveTouch"), ("FiveTouch$Text", 13, "FiveTouch$Clause", "head", "I", "FiveTouch"), ("FiveTouch$Text", 23, "FiveTouch$Clause", "told", "J", "FiveTouch"), ("FiveTouch$Scene", 52, "FiveTouch$Yard", "terms", "[I", "FiveTouch"), ("FiveTouch$Scene", 67, "FiveTouch$Asked", "numbers", "[J", "FiveTouch"), ("FiveTouch$Scene", 33, "FiveTouch", "yard", "LFiveTouch$Yard;", "FiveTouch"), ("FiveTouch$Scene", 63, "FiveTouch", "asked", "LFiveTouch$Asked;", "FiveTouch"), ("FiveTouch$Scene", 85, "FiveTouch", "nothingTold", "LFiveTouch$Text;", "FiveTouch"), ("FiveTouch$Scene", 73, "FiveTouch$Stone", "x", "I", "FiveTouch"), ("FiveTouch$Scene", 47, "FiveTouch$Stone", "y", "I", "FiveTouch"), ("FiveTouch$Scene", 76, "FiveTouch$Stone", "wide", "I", "FiveTouch"), ("FiveTouch$Scene", 79, "FiveTouch$Stone", "tall", "I", "FiveTouch"), ("FiveTouch$Scene", 82, "FiveTouch$Stone", "facts", "[I", "FiveTouch"), ("FiveTouch$Reader", 99, "FiveTouch", "tape", "[B", "FiveTouch"), ("FiveTouch$Reader", 85, "FiveTouch", "taped", "I", "FiveTouch")]
abbrev as_nwM : List (String × Nat × MethodName × String) := [("FiveTouch", 17, ⟨"FiveTouch$Yard", "<init>", "()V"⟩, "FiveTouch"), ("FiveTouch", 28, ⟨"FiveTouch$Asked", "<init>", "()V"⟩, "FiveTouch"), ("FiveTouch", 58, ⟨"FiveTouch$Scene", "<init>", "(LFiveTouch;)V"⟩, "FiveTouch"), ("FiveTouch", 203, ⟨"FiveTouch$Reader", "<init>", "(LFiveTouch;)V"⟩, "FiveTouch"), ("FiveTouch$Amount", 1, ⟨"FiveTouch$Sum", "<init>", "()V"⟩, "FiveTouch"), ("FiveTouch$Part", 1, ⟨"FiveTouch$Sum", "<init>", "()V"⟩, "FiveTouch"), ("FiveTouch$Joined", 1, ⟨"FiveTouch$Sum", "<init>", "()V"⟩, "FiveTouch"), ("FiveTouch$Compared", 1, ⟨"FiveTouch$Test", "<init>", "()V"⟩, "FiveTouch"), ("FiveTouch$Not", 1, ⟨"FiveTouch$Test", "<init>", "()V"⟩, "FiveTouch"), ("FiveTouch$Row", 1, ⟨"FiveTouch$Test", "<init>", "()V"⟩, "FiveTouch"), ("FiveTouch$AtOnce", 7, ⟨"FiveTouch$Search", "<init>", "(LFiveTouch;)V"⟩, "FiveTouch"), ("FiveTouch$AtOnce", 39, ⟨"FiveTouch", "isMore", "(II)Z"⟩, "FiveTouch"), ("FiveTouch$OneByOne", 50, ⟨"FiveTouch", "isMore", "(II)Z"⟩, "FiveTouch"), ("FiveTouch$OneByOne", 9, ⟨"FiveTouch$Search", "<init>", "(LFiveTouch;)V"⟩, "FiveTouch"), ("FiveTouch$OneByOne", 46, ⟨"FiveTouch", "has", "(II)Z"⟩, "FiveTouch"), ("FiveTouch$Felling", 39, ⟨"FiveTouch", "size", "(I)I"⟩, "FiveTouch"), ("FiveTouch$Felling", 7, ⟨"FiveTouch$Search", "<init>", "(LFiveTouch;)V"⟩, "FiveTouch"), ("FiveTouch$Mending", 49, ⟨"FiveTouch", "size", "(I)I"⟩, "FiveTouch"), ("FiveTouch$Mending", 9, ⟨"FiveTouch$Search", "<init>", "(LFiveTouch;)V"⟩, "FiveTouch"), ("FiveTouch$Scene", 116, ⟨"FiveTouch", "size", "(I)I"⟩, "FiveTouch"), ("FiveTouch$Scene", 120, ⟨"FiveTouch", "has", "(II)Z"⟩, "FiveTouch"), ("FiveTouch$Stone", 51, ⟨"FiveTouch", "in", "(JJJ)Z"⟩, "FiveTouch"), ("FiveTouch$Reader", 103, ⟨"FiveTouch", "isLetter", "(I)Z"⟩, "FiveTouch"), ("FiveTouch$Reader", 107, ⟨"FiveTouch", "isDigit", "(I)Z"⟩, "FiveTouch")]
abbrev as_nwC : List (String × String) := [("java/lang/ArrayIndexOutOfBoundsException", "java/lang/ArrayIndexOutOfBoundsException"), ("java/lang/ArrayIndexOutOfBoundsException", "java/lang/Object"), ("java/lang/String", "java/lang/Object"), ("java/util/ArrayList", "java/lang/Object"), ("java/lang/Throwable", "java/lang/Object"), ("FiveTouch", "java/lang/Object"), ("FiveTouch$Yard", "java/lang/Object"), ("FiveTouch$Amount", "java/lang/Object"), ("FiveTouch$Part", "java/lang/Object"), ("FiveTouch$Joined", "java/lang/Object"), ("FiveTouch$Test", "java/lang/Object"), ("FiveTouch$Compared", "java/lang/Object"), ("FiveTouch$Compared", "FiveTouch$Test"), ("FiveTouch$Not", "java/lang/Object"), ("FiveTouch$Not", "FiveTouch$Test"), ("FiveTouch$Row", "java/lang/Object"), ("FiveTouch$Row", "FiveTouch$Test"), ("FiveTouch$Clause", "java/lang/Object"), ("FiveTouch$AtOnce", "java/lang/Object"), ("FiveTouch$Asked", "java/lang/Object"), ("FiveTouch$OneByOne", "java/lang/Object"), ("FiveTouch$Felling", "java/lang/Object"), ("FiveTouch$Mending", "java/lang/Object"), ("FiveTouch$Draws", "java/lang/Object"), ("FiveTouch$Text", "java/lang/Object"), ("FiveTouch$Scene", "java/lang/Object"), ("FiveTouchModel", "java/lang/Object"), ("FiveTouch$Stone", "java/lang/Object"), ("FiveTouch$Reader", "java/lang/Object"), ("FiveTouch$Wrong", "FiveTouch$Wrong"), ("FiveTouch$Wrong", "java/lang/Object"), ("[B", "java/lang/Object"), ("[I", "java/lang/Object"), ("[J", "java/lang/Object"), ("[LFiveTouch$Clause;", "java/lang/Object"), ("[LFiveTouch$Test;", "java/lang/Object"), ("[LFiveTouch$Yard;", "java/lang/Object"), ("[Ljava/lang/Object;", "java/lang/Object"), ("[Ljava/lang/String;", "java/lang/Object"), ("[Z", "java/lang/Object")]
abbrev as_nwD : List MethodName := [⟨"java/lang/RuntimeException", "<init>", "()V"⟩, ⟨"java/lang/RuntimeException", "<init>", "(Ljava/lang/String;)V"⟩, ⟨"java/lang/IndexOutOfBoundsException", "<init>", "()V"⟩, ⟨"java/lang/IndexOutOfBoundsException", "<init>", "(Ljava/lang/String;)V"⟩, ⟨"java/lang/Object", "getClass", "()Ljava/lang/Class;"⟩, ⟨"java/lang/Throwable", "<init>", "()V"⟩, ⟨"java/lang/Throwable", "<init>", "(Ljava/lang/String;)V"⟩, ⟨"java/lang/Exception", "<init>", "()V"⟩, ⟨"java/lang/Exception", "<init>", "(Ljava/lang/String;)V"⟩, ⟨"FiveTouch$Test", "of", "(LFiveTouch$Asked;)Z"⟩, ⟨"FiveTouch$Search", "go", "(I)V"⟩, ⟨"FiveTouch$Search", "counts", "(I)Z"⟩, ⟨"FiveTouch$Search", "isBetter", "(II)Z"⟩, ⟨"FiveTouch$Sum", "of", "(LFiveTouch$Asked;)J"⟩]
abbrev as_ao : List String := ["java/lang/Object", "FiveTouch$Yard", "FiveTouch$Clause", "FiveTouch$Test", "java/lang/String"]
abbrev as_stl : List (String × String × String) := [("java/util/ArrayList", "DEFAULTCAPACITY_EMPTY_ELEMENTDATA", "[Ljava/lang/Object;"), ("java/lang/Throwable", "UNASSIGNED_STACK", "[Ljava/lang/StackTraceElement;"), ("java/lang/Throwable", "SUPPRESSED_SENTINEL", "Ljava/util/List;"), ("java/lang/String", "COMPACT_STRINGS", "Z"), ("jdk/internal/util/Preconditions", "SIOOBE_FORMATTER", "Ljava/util/function/BiFunction;")]
/-- String constants: entry, text -/
abbrev as_strs : List (Nat × String) := [(23, "stone"), (25, "x"), (27, "y"), (29, "wide"), (31, "tall"), (33, "weight"), (35, "farm"), (37, "frost"), (43, "needs"), (45, "bound"), (211, "["), (213, "]"), (207, "*"), (209, "/"), (197, "+"), (199, "-"), (134, "if"), (166, "not"), (168, "("), (173, ")"), (179, "<"), (181, ">"), (183, "="), (159, "and"), (150, "or"), (76, ";")]
def as_byte (i j : Nat) : Int32 := ((as_strs.getD i (0, "")).2.toList.getD j ' ').toNat.toInt32
def as_slen (i : Nat) : Nat := (as_strs.getD i (0, "")).2.length
/-- foreign things by their kinds -/
def as_fk (a : Nat) : am_E → Prop
  | .inl (t, _) => (t = 50 ∧ a = 0) ∨ (t = 51 ∧ a = 1) ∨ (t = 52 ∧ ∃ i, i < 26 ∧ a = 11 + 2 * i)
  | .inr (c, _) => c = 50 → ∃ i, i < 26 ∧ a = 10 + 2 * i
/-- what holds of the tables and of the foreign things -/
def as_F (G : as_P) (U : State) (H : Heap) : Prop :=
  va_K G.1 as_cl (as_tys G.2.1) U ∧ (∀ w ∈ as_nwF, va_Nw (.fieldLinkNest w.1 w.2.1 w.2.2.1 w.2.2.2.1 w.2.2.2.2.1 w.2.2.2.2.2) U) ∧ (∀ w ∈ as_nwM, va_Nw (.methodLinkNest w.1 w.2.1 w.2.2.1 w.2.2.2) U) ∧ (∀ w ∈ as_nwC, va_Nw (.castable w.1 w.2) U) ∧ (∀ w ∈ as_nwD, va_Nw (.declares w) U) ∧ (∀ C ∈ as_ao, va_AO C U) ∧
  G.2.2.2.1 ≤ H.size ∧ (G.2.2.2.2.1.length = 100 ∧ (∀ (a : Nat) (e : am_E), G.2.2.2.2.1[a]? = some e → as_real e = false ∧ as_fk a e) ∧ (∀ (a : Nat) (e : am_E), a < 100 → G.2.2.2.2.1[a]? = some e → e ≠ .inr (60, []) → G.2.2.1 a < G.2.2.2.1) ∧ ∀ v ∈ G.2.2.2.2.2, am_cv 100 v) ∧
  (∃ (n : Nat) (xs : Nat → Int32), G.2.2.2.2.1[0]? = some (.inl (50, n, .inl xs)) ∧ n ≤ 384 ∧ va_X (G.2.2.1 0) n xs U H ∧ ¬ as_A G (G.2.2.1 0)) ∧
  (G.2.2.2.2.1[1]? = some (.inl (51, 0, .inr (.inr (.inr (.inr (fun _ => none)))))) ∧ va_T (.object "java/lang/Object") (G.2.2.1 1) 0 (fun _ => .null) (as_A G) U H) ∧ va_Mi "[Ljava/lang/Object;" (G.2.2.1 2) U ∧
  (∀ (k : Nat) (q : String × String × String), as_stl[k]? = some q → ∃ v, G.2.2.2.2.2[k]? = some v ∧ va_Z q.1 q.2.1 q.2.2 (as_v G.2.2.1 v) (as_A G) U H) ∧
  (∀ i, i < 26 → G.2.2.2.2.1[10 + 2 * i]? = some (.inr (50, [.ref (11 + 2 * i), .int 0])) ∧ G.2.2.2.2.1[11 + 2 * i]? = some (.inl (52, as_slen i, .inl (as_byte i))) ∧ va_O "java/lang/String" (G.2.2.1 (10 + 2 * i)) (as_A G) U H ∧ va_OF "java/lang/String" "coder" "B" (.int 0) (G.2.2.1 (10 + 2 * i)) (as_A G) U H ∧ va_OF "java/lang/String" "value" "[B" (.ref (G.2.2.1 (11 + 2 * i))) (G.2.2.1 (10 + 2 * i)) (as_A G) U H ∧ va_T .byte (G.2.2.1 (11 + 2 * i)) (as_slen i) (fun j => .int (as_byte i j)) (as_A G) U H ∧ vk_R "FiveTouch$Reader" (as_strs.getD i (0, "")).1 (as_strs.getD i (0, "")).2 (G.2.2.1 (10 + 2 * i)) U) ∧
  vx_Zq Bundle.tN "UNASSIGNED_STACK" Bundle.steD (as_A G) U H ∧ vx_Zq Bundle.tN "SUPPRESSED_SENTINEL" Bundle.listD (as_A G) U H
theorem as_F.move {G : as_P} {s U : State} {H H1 : Heap} (hW : s.WarmedH U.vm) (hz : H.size ≤ H1.size) (hq : ∀ q : Nat, q < H.size → ¬ as_A G q → H1[q]? = H[q]?) (h : as_F G s H) : as_F G U H1 := by
  obtain ⟨h1, h2, h3, h4, h5, h6, h7, h8, ⟨n, xs, h9, h10, h11, h12⟩, ⟨h13, h14⟩, h15, h16, h17, h18, h19⟩ := h
  have hal := hW.alike
  refine ⟨h1.moved hal, fun w hw => (h2 w hw).warmF hW, fun w hw => (h3 w hw).warmM hW, fun w hw => (h4 w hw).warmC hW, fun w hw => (h5 w hw).warmD hW, fun C hC => (h6 C hC).moved hal, Nat.le_trans h7 hz, h8, ⟨n, xs, h9, h10, ?_, h12⟩, ⟨h13, (h14.moved hal).kept hq⟩, h15.moved hal, fun k q hk => ?_, fun i hi => ?_, (h18.moved hal).kept hq, (h19.moved hal).kept hq⟩
  · refine (h11.moved hal).kept (hq _ ?_ h12)
    obtain ⟨scr, e1, -⟩ := h11
    exact (Array.getElem?_eq_some_iff.mp e1).1
  · obtain ⟨v, e1, e2⟩ := h16 k q hk
    exact ⟨v, e1, (e2.moved hal).kept hq⟩
  · obtain ⟨e1, e2, e3, e4, e5, e6, e7⟩ := h17 i hi
    exact ⟨e1, e2, (e3.moved hal).kept hq, (e4.moved hal).kept hq, (e5.moved hal).kept hq, (e6.moved hal).kept hq, e7.warm hW⟩
/-- locals -/
def as_L (r : Nat → Nat) (ls : Array Slot) (mx : Nat) (L : am_L) : Prop := L.length = mx ∧ lv_has ls mx ((List.range mx).filterMap (fun k => match L[k]? with | some (some v) => some (k, as_v r v) | _ => none))
theorem as_L.at {r : Nat → Nat} {ls : Array Slot} {mx : Nat} {L : am_L} (h : as_L r ls mx L) {k : Nat} {v : Value} (hk : L[k]? = some (some v)) : ls[k]? = some (.val (as_v r v)) := by
  refine h.2.2.2 (k, as_v r v) (List.mem_filterMap.mpr ⟨k, List.mem_range.mpr ?_, ?_⟩)
  · rw [← h.1]; exact (List.getElem?_eq_some_iff.mp hk).1
  · rw [hk]
theorem as_L.mono {r : Nat → Nat} {ls : Array Slot} {mx : Nat} {L : am_L} (hl : L.length = mx) {l : List (Nat × Value)} (h : lv_has ls mx l) (hs : ∀ (k : Nat) (v : Value), L[k]? = some (some v) → (k, as_v r v) ∈ l) : as_L r ls mx L := by
  refine ⟨hl, h.1, h.2.1, fun q hq => h.2.2 q ?_⟩
  obtain ⟨k, -, hk⟩ := List.mem_filterMap.mp hq
  split at hk
  · rename_i v hv
    cases hk
    exact hs k v hv
  · cases hk
theorem as_L.mem {r : Nat → Nat} {ls : Array Slot} {mx : Nat} {L : am_L} (h : as_L r ls mx L) {k : Nat} {v : Value} (hk : L[k]? = some (some v)) : (k, as_v r v) ∈ ((List.range mx).filterMap (fun k => match L[k]? with | some (some v) => some (k, as_v r v) | _ => none)) := by
  refine List.mem_filterMap.mpr ⟨k, List.mem_range.mpr ?_, ?_⟩
  · rw [← h.1]; exact (List.getElem?_eq_some_iff.mp hk).1
  · rw [hk]
theorem as_L.ren {r r' : Nat → Nat} {ls : Array Slot} {mx : Nat} {L : am_L} (h : as_L r ls mx L) (he : ∀ (k : Nat) (v : Value), L[k]? = some (some v) → as_v r' v = as_v r v) : as_L r' ls mx L := by
  refine as_L.mono h.1 h.2 (fun k v hk => ?_)
  rw [he k v hk]
  exact h.mem hk
theorem as_v_cat (r : Nat → Nat) (v : Value) : (as_v r v).category = v.category := by cases v <;> rfl
