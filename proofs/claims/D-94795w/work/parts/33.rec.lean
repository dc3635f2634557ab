/-! Soundness of AM: the methods' records, and what rows of more than one use need -/
set_option maxRecDepth 100000
theorem as_mem {α : Type} {l : List α} {x : α} (i : Nat) (h : l[i]? = some x) : x ∈ l := List.mem_of_getElem? h
theorem as_n0 {α : Type} {P : α → Prop} : ∀ x ∈ ([] : List α), P x := fun _ h => nomatch h
theorem as_n1 {α : Type} {P : α → Prop} {a : α} {l : List α} (h : P a) (hl : ∀ x ∈ l, P x) : ∀ x ∈ a :: l, P x := List.forall_mem_cons.mpr ⟨h, hl⟩
def as_Yl : List (Option as_D) := [none,
 some ((⟨"FiveTouch", "<init>", "()V"⟩ : MethodName), prog_1_method_4_code, 1, (none : Option FieldType), []),
 some ((⟨"FiveTouch", "feed", "(IIIII)I"⟩ : MethodName), prog_1_method_10_code, 6, (some (.int) : Option FieldType), []),
 some ((⟨"FiveTouch", "four", "(I)V"⟩ : MethodName), prog_1_method_9_code, 3, (none : Option FieldType), []),
 some ((⟨"FiveTouch", "end", "(I)I"⟩ : MethodName), prog_1_method_11_code, 2, (some (.int) : Option FieldType), []),
 some ((⟨"FiveTouch", "in", "(JJJ)Z"⟩ : MethodName), prog_1_method_1_code, 6, (some (.boolean) : Option FieldType), []),
 some ((⟨"FiveTouch", "stone", "(IIIII)I"⟩ : MethodName), prog_1_method_14_code, 7, (some (.int) : Option FieldType), []),
 some ((⟨"FiveTouch", "tell", "(I)I"⟩ : MethodName), prog_1_method_5_code, 2, (some (.int) : Option FieldType), []),
 some ((⟨"FiveTouch", "was", "(I)I"⟩ : MethodName), prog_1_method_6_code, 2, (some (.int) : Option FieldType), []),
 some ((⟨"FiveTouch", "spare", "(IIIII)I"⟩ : MethodName), prog_1_method_15_code, 7, (some (.int) : Option FieldType), []),
 some ((⟨"FiveTouch", "put", "(III)I"⟩ : MethodName), prog_1_method_16_code, 6, (some (.int) : Option FieldType), []),
 some ((⟨"FiveTouch", "isStone", "(I)Z"⟩ : MethodName), prog_1_method_7_code, 2, (some (.boolean) : Option FieldType), []),
 some ((⟨"FiveTouch", "of", "(II)I"⟩ : MethodName), prog_1_method_17_code, 4, (some (.int) : Option FieldType), []),
 some ((⟨"FiveTouch", "has", "(II)Z"⟩ : MethodName), prog_1_method_2_code, 2, (some (.boolean) : Option FieldType), []),
 some ((⟨"FiveTouch", "terms", "(II)I"⟩ : MethodName), prog_1_method_18_code, 4, (some (.int) : Option FieldType), []),
 some ((⟨"FiveTouch", "row", "()I"⟩ : MethodName), prog_1_method_20_code, 8, (some (.int) : Option FieldType), [(58, 67, 218, 196), (58, 67, 374, 0), (218, 223, 374, 0), (374, 376, 374, 0)]),
 some ((⟨"FiveTouch", "byteAt", "([BI)I"⟩ : MethodName), prog_1_method_19_code, 2, (some (.int) : Option FieldType), []),
 some ((⟨"FiveTouch", "add", "(LFiveTouch$Stone;)Z"⟩ : MethodName), prog_1_method_21_code, 2, (some (.boolean) : Option FieldType), []),
 some ((⟨"FiveTouch", "rubble", "()I"⟩ : MethodName), prog_1_method_22_code, 1, (some (.int) : Option FieldType), []),
 some ((⟨"FiveTouch", "law", "()I"⟩ : MethodName), prog_1_method_23_code, 4, (some (.int) : Option FieldType), [(27, 71, 78, 208), (27, 71, 101, 0), (78, 94, 101, 0)]),
 some ((⟨"FiveTouch", "isLetter", "(I)Z"⟩ : MethodName), prog_1_method_12_code, 1, (some (.boolean) : Option FieldType), []),
 some ((⟨"FiveTouch", "isDigit", "(I)Z"⟩ : MethodName), prog_1_method_13_code, 1, (some (.boolean) : Option FieldType), []),
 some ((⟨"FiveTouch", "fault", "()I"⟩ : MethodName), prog_1_method_24_code, 1, (some (.int) : Option FieldType), []),
 some ((⟨"FiveTouch", "force", "(I)I"⟩ : MethodName), prog_1_method_25_code, 3, (some (.int) : Option FieldType), []),
 some ((⟨"FiveTouch", "at", "(II)I"⟩ : MethodName), prog_1_method_26_code, 4, (some (.int) : Option FieldType), []),
 some ((⟨"FiveTouch", "touches", "(II)I"⟩ : MethodName), prog_1_method_27_code, 4, (some (.int) : Option FieldType), []),
 some ((⟨"FiveTouch", "size", "(I)I"⟩ : MethodName), prog_1_method_3_code, 1, (some (.int) : Option FieldType), []),
 some ((⟨"FiveTouch", "unlawful", "()I"⟩ : MethodName), prog_1_method_28_code, 2, (some (.int) : Option FieldType), []),
 some ((⟨"FiveTouch", "there", "()I"⟩ : MethodName), prog_1_method_29_code, 1, (some (.int) : Option FieldType), []),
 some ((⟨"FiveTouch", "stand", "(I)I"⟩ : MethodName), prog_1_method_30_code, 3, (some (.int) : Option FieldType), []),
 some ((⟨"FiveTouch", "falls", "(II)I"⟩ : MethodName), prog_1_method_32_code, 8, (some (.int) : Option FieldType), []),
 some ((⟨"FiveTouch", "areThere", "(I)Z"⟩ : MethodName), prog_1_method_8_code, 2, (some (.boolean) : Option FieldType), []),
 some ((⟨"FiveTouch", "weight", "(I)I"⟩ : MethodName), prog_1_method_31_code, 4, (some (.int) : Option FieldType), []),
 some ((⟨"FiveTouch", "round", "(II)I"⟩ : MethodName), prog_1_method_33_code, 7, (some (.int) : Option FieldType), []),
 some ((⟨"FiveTouch", "take", "(I)I"⟩ : MethodName), prog_1_method_34_code, 3, (some (.int) : Option FieldType), []),
 some ((⟨"FiveTouch", "farm", "(II)I"⟩ : MethodName), prog_1_method_35_code, 6, (some (.int) : Option FieldType), []),
 some ((⟨"FiveTouch", "gate", "(IIIII)I"⟩ : MethodName), prog_1_method_36_code, 9, (some (.int) : Option FieldType), []),
 some ((⟨"FiveTouch", "once", "(I)I"⟩ : MethodName), prog_1_method_39_code, 2, (some (.int) : Option FieldType), []),
 some ((⟨"FiveTouch", "isMore", "(II)Z"⟩ : MethodName), prog_1_method_37_code, 3, (some (.boolean) : Option FieldType), []),
 some ((⟨"FiveTouch", "told", "(LFiveTouch$Search;I)I"⟩ : MethodName), prog_1_method_38_code, 3, (some (.int) : Option FieldType), []),
 some ((⟨"FiveTouch", "oneByOne", "(I)I"⟩ : MethodName), prog_1_method_40_code, 2, (some (.int) : Option FieldType), []),
 some ((⟨"FiveTouch", "order", "(I)I"⟩ : MethodName), prog_1_method_41_code, 8, (some (.int) : Option FieldType), []),
 some ((⟨"FiveTouch", "fell", "(I)I"⟩ : MethodName), prog_1_method_43_code, 3, (some (.int) : Option FieldType), []),
 some ((⟨"FiveTouch", "asFew", "(LFiveTouch$Search;I)I"⟩ : MethodName), prog_1_method_42_code, 5, (some (.int) : Option FieldType), []),
 some ((⟨"FiveTouch", "mend", "(I)I"⟩ : MethodName), prog_1_method_44_code, 3, (some (.int) : Option FieldType), []),
 some ((⟨"FiveTouch", "game", "(I)I"⟩ : MethodName), prog_1_method_45_code, 6, (some (.int) : Option FieldType), []),
 some ((⟨"FiveTouch", "winner", "(LFiveTouch$Scene;I)I"⟩ : MethodName), prog_1_method_46_code, 4, (some (.int) : Option FieldType), []),
 some ((⟨"FiveTouch", "night", "(II)I"⟩ : MethodName), prog_1_method_47_code, 11, (some (.int) : Option FieldType), []),
 some ((⟨"FiveTouch", "winters", "(II)I"⟩ : MethodName), prog_1_method_48_code, 9, (some (.int) : Option FieldType), []),
 some ((⟨"FiveTouch", "putBack", "(LFiveTouch$Scene;I)I"⟩ : MethodName), prog_1_method_49_code, 7, (some (.int) : Option FieldType), []),
 some ((⟨"FiveTouch", "winter", "(I)I"⟩ : MethodName), prog_1_method_50_code, 2, (some (.int) : Option FieldType), []),
 some ((⟨"FiveTouch", "image", "(I)I"⟩ : MethodName), prog_1_method_51_code, 2, (some (.int) : Option FieldType), []),
 some ((⟨"FiveTouch", "back", "(I)I"⟩ : MethodName), prog_1_method_52_code, 2, (some (.int) : Option FieldType), []),
 some ((⟨"FiveTouch", "count", "(I)I"⟩ : MethodName), prog_1_method_53_code, 2, (some (.int) : Option FieldType), []),
 some ((⟨"FiveTouch", "status", "()I"⟩ : MethodName), prog_1_method_54_code, 1, (some (.int) : Option FieldType), []),
 some ((⟨"FiveTouch$Yard", "<init>", "()V"⟩ : MethodName), prog_23_method_1_code, 1, (none : Option FieldType), []),
 some ((⟨"FiveTouch$Yard", "isFree", "(LFiveTouch$Stone;)Z"⟩ : MethodName), prog_23_method_5_code, 3, (some (.boolean) : Option FieldType), []),
 some ((⟨"FiveTouch$Yard", "of", "(I)LFiveTouch$Stone;"⟩ : MethodName), prog_23_method_4_code, 2, (some (.object "FiveTouch$Stone") : Option FieldType), []),
 some ((⟨"FiveTouch$Yard", "law", "(LFiveTouch$Text;)LFiveTouch$Text;"⟩ : MethodName), prog_23_method_3_code, 2, (some (.object "FiveTouch$Text") : Option FieldType), []),
 some ((⟨"FiveTouch$Yard", "copy", "()LFiveTouch$Yard;"⟩ : MethodName), prog_23_method_2_code, 3, (some (.object "FiveTouch$Yard") : Option FieldType), []),
 some ((⟨"FiveTouch$Asked", "<init>", "()V"⟩ : MethodName), prog_3_method_1_code, 1, (none : Option FieldType), []),
 some ((⟨"FiveTouch$Asked", "within", "(J)J"⟩ : MethodName), prog_3_method_2_code, 3, (some (.long) : Option FieldType), []),
 some ((⟨"FiveTouch$Text", "<init>", "([LFiveTouch$Clause;)V"⟩ : MethodName), prog_21_method_1_code, 2, (none : Option FieldType), []),
 some ((⟨"FiveTouch$Text", "tells", "(ILFiveTouch$Asked;J)J"⟩ : MethodName), prog_21_method_3_code, 8, (some (.long) : Option FieldType), []),
 some ((⟨"FiveTouch$Text", "has", "(ILFiveTouch$Asked;)Z"⟩ : MethodName), prog_21_method_2_code, 4, (some (.boolean) : Option FieldType), []),
 some ((⟨"FiveTouch$Scene", "<init>", "(LFiveTouch;)V"⟩ : MethodName), prog_16_method_1_code, 2, (none : Option FieldType), []),
 some ((⟨"FiveTouch$Scene", "make", "()LFiveTouch$Scene;"⟩ : MethodName), prog_16_method_2_code, 4, (some (.object "FiveTouch$Scene") : Option FieldType), []),
 some ((⟨"FiveTouch$Scene", "ask", "(ILFiveTouch$Stone;)V"⟩ : MethodName), prog_16_method_3_code, 4, (none : Option FieldType), []),
 some ((⟨"FiveTouch$Scene", "touches", "(II)I"⟩ : MethodName), prog_16_method_4_code, 3, (some (.int) : Option FieldType), []),
 some ((⟨"FiveTouch$Scene", "weak", "(I)I"⟩ : MethodName), prog_16_method_6_code, 4, (some (.int) : Option FieldType), []),
 some ((⟨"FiveTouch$Scene", "stands", "(II)Z"⟩ : MethodName), prog_16_method_5_code, 3, (some (.boolean) : Option FieldType), []),
 some ((⟨"FiveTouch$Scene", "fall", "(I)I"⟩ : MethodName), prog_16_method_8_code, 4, (some (.int) : Option FieldType), []),
 some ((⟨"FiveTouch$Scene", "isLawful", "(I)Z"⟩ : MethodName), prog_16_method_7_code, 2, (some (.boolean) : Option FieldType), []),
 some ((⟨"FiveTouchModel", "<init>", "()V"⟩ : MethodName), prog_25_method_6_code, 1, (none : Option FieldType), []),
 some ((⟨"FiveTouchModel", "image", "(I)I"⟩ : MethodName), prog_25_method_7_code, 3, (some (.int) : Option FieldType), []),
 some ((⟨"FiveTouchModel", "lies", "(III)Z"⟩ : MethodName), prog_25_method_1_code, 3, (some (.boolean) : Option FieldType), []),
 some ((⟨"FiveTouchModel", "refuses", "(I)I"⟩ : MethodName), prog_25_method_2_code, 2, (some (.int) : Option FieldType), []),
 some ((⟨"FiveTouchModel", "good", "(I)I"⟩ : MethodName), prog_25_method_3_code, 2, (some (.int) : Option FieldType), []),
 some ((⟨"FiveTouchModel", "back", "(I)I"⟩ : MethodName), prog_25_method_8_code, 3, (some (.int) : Option FieldType), []),
 some ((⟨"FiveTouchModel", "stone", "(IIIII)I"⟩ : MethodName), prog_25_method_19_code, 6, (some (.int) : Option FieldType), []),
 some ((⟨"FiveTouchModel", "canBe", "(IIIII)Z"⟩ : MethodName), prog_25_method_15_code, 5, (some (.boolean) : Option FieldType), []),
 some ((⟨"FiveTouchModel", "isFree", "(IIII)Z"⟩ : MethodName), prog_25_method_16_code, 7, (some (.boolean) : Option FieldType), []),
 some ((⟨"FiveTouchModel", "isItem", "(I)Z"⟩ : MethodName), prog_25_method_13_code, 2, (some (.boolean) : Option FieldType), []),
 some ((⟨"FiveTouchModel", "isStone", "(I)Z"⟩ : MethodName), prog_25_method_11_code, 2, (some (.boolean) : Option FieldType), []),
 some ((⟨"FiveTouchModel", "stones", "()I"⟩ : MethodName), prog_25_method_9_code, 1, (some (.int) : Option FieldType), []),
 some ((⟨"FiveTouchModel", "spares", "()I"⟩ : MethodName), prog_25_method_10_code, 1, (some (.int) : Option FieldType), []),
 some ((⟨"FiveTouchModel", "covers", "(III)Z"⟩ : MethodName), prog_25_method_14_code, 4, (some (.boolean) : Option FieldType), []),
 some ((⟨"FiveTouchModel", "factOf", "(II)I"⟩ : MethodName), prog_25_method_12_code, 3, (some (.int) : Option FieldType), []),
 some ((⟨"FiveTouchModel", "adds", "(IIIII)I"⟩ : MethodName), prog_25_method_18_code, 7, (some (.int) : Option FieldType), []),
 some ((⟨"FiveTouchModel", "lays", "(IIIIII)V"⟩ : MethodName), prog_25_method_17_code, 8, (none : Option FieldType), []),
 some ((⟨"FiveTouchModel", "spare", "(IIIII)I"⟩ : MethodName), prog_25_method_20_code, 7, (some (.int) : Option FieldType), []),
 some ((⟨"FiveTouchModel", "put", "(III)I"⟩ : MethodName), prog_25_method_21_code, 5, (some (.int) : Option FieldType), []),
 some ((⟨"FiveTouchModel", "of", "(II)I"⟩ : MethodName), prog_25_method_22_code, 3, (some (.int) : Option FieldType), []),
 some ((⟨"FiveTouchModel", "terms", "(II)I"⟩ : MethodName), prog_25_method_23_code, 4, (some (.int) : Option FieldType), []),
 some ((⟨"FiveTouchModel", "row", "()I"⟩ : MethodName), prog_25_method_24_code, 5, (some (.int) : Option FieldType), []),
 some ((⟨"FiveTouchModel", "rubble", "()I"⟩ : MethodName), prog_25_method_25_code, 1, (some (.int) : Option FieldType), []),
 some ((⟨"FiveTouchModel", "feed", "(IIIII)I"⟩ : MethodName), prog_25_method_26_code, 7, (some (.int) : Option FieldType), []),
 some ((⟨"FiveTouchModel", "end", "(I)I"⟩ : MethodName), prog_25_method_27_code, 2, (some (.int) : Option FieldType), []),
 some ((⟨"FiveTouchModel", "law", "()I"⟩ : MethodName), prog_25_method_46_code, 3, (some (.int) : Option FieldType), []),
 some ((⟨"FiveTouchModel", "reads", "()Z"⟩ : MethodName), prog_25_method_45_code, 2, (some (.boolean) : Option FieldType), []),
 some ((⟨"FiveTouchModel", "splits", "(I)V"⟩ : MethodName), prog_25_method_31_code, 6, (none : Option FieldType), []),
 some ((⟨"FiveTouchModel", "isSmall", "(I)Z"⟩ : MethodName), prog_25_method_28_code, 1, (some (.boolean) : Option FieldType), []),
 some ((⟨"FiveTouchModel", "isDigit", "(I)Z"⟩ : MethodName), prog_25_method_29_code, 1, (some (.boolean) : Option FieldType), []),
 some ((⟨"FiveTouchModel", "wordOf", "(II)I"⟩ : MethodName), prog_25_method_30_code, 8, (some (.int) : Option FieldType), []),
 some ((⟨"FiveTouchModel", "readClause", "()V"⟩ : MethodName), prog_25_method_38_code, 1, (none : Option FieldType), []),
 some ((⟨"FiveTouchModel", "takes0", "(I)Z"⟩ : MethodName), prog_25_method_34_code, 3, (some (.boolean) : Option FieldType), []),
 some ((⟨"FiveTouchModel", "fine", "()Z"⟩ : MethodName), prog_25_method_32_code, 1, (some (.boolean) : Option FieldType), []),
 some ((⟨"FiveTouchModel", "readSum", "(I)V"⟩ : MethodName), prog_25_method_42_code, 2, (none : Option FieldType), []),
 some ((⟨"FiveTouchModel", "readTerm", "(I)V"⟩ : MethodName), prog_25_method_43_code, 2, (none : Option FieldType), []),
 some ((⟨"FiveTouchModel", "readPart", "(I)V"⟩ : MethodName), prog_25_method_44_code, 3, (none : Option FieldType), []),
 some ((⟨"FiveTouchModel", "sign", "(C)I"⟩ : MethodName), prog_25_method_37_code, 1, (some (.int) : Option FieldType), []),
 some ((⟨"FiveTouchModel", "faults", "()V"⟩ : MethodName), prog_25_method_33_code, 1, (none : Option FieldType), []),
 some ((⟨"FiveTouchModel", "must", "(I)V"⟩ : MethodName), prog_25_method_35_code, 2, (none : Option FieldType), []),
 some ((⟨"FiveTouchModel", "leaf", "()V"⟩ : MethodName), prog_25_method_36_code, 1, (none : Option FieldType), []),
 some ((⟨"FiveTouchModel", "readTest", "(I)V"⟩ : MethodName), prog_25_method_39_code, 2, (none : Option FieldType), []),
 some ((⟨"FiveTouchModel", "readBoth", "(I)V"⟩ : MethodName), prog_25_method_40_code, 2, (none : Option FieldType), []),
 some ((⟨"FiveTouchModel", "readPlain", "(I)V"⟩ : MethodName), prog_25_method_41_code, 4, (none : Option FieldType), []),
 some ((⟨"FiveTouchModel", "fault", "()I"⟩ : MethodName), prog_25_method_47_code, 1, (some (.int) : Option FieldType), []),
 some ((⟨"FiveTouchModel", "force", "(I)I"⟩ : MethodName), prog_25_method_48_code, 3, (some (.int) : Option FieldType), []),
 some ((⟨"FiveTouchModel", "at", "(II)I"⟩ : MethodName), prog_25_method_65_code, 4, (some (.int) : Option FieldType), []),
 some ((⟨"FiveTouchModel", "isIn", "(II)Z"⟩ : MethodName), prog_25_method_4_code, 2, (some (.boolean) : Option FieldType), []),
 some ((⟨"FiveTouchModel", "touches", "(II)I"⟩ : MethodName), prog_25_method_66_code, 4, (some (.int) : Option FieldType), []),
 some ((⟨"FiveTouchModel", "looks", "()V"⟩ : MethodName), prog_25_method_61_code, 3, (none : Option FieldType), []),
 some ((⟨"FiveTouchModel", "asksOf", "(I)V"⟩ : MethodName), prog_25_method_59_code, 7, (none : Option FieldType), []),
 some ((⟨"FiveTouchModel", "codeAt", "(I)I"⟩ : MethodName), prog_25_method_49_code, 2, (some (.int) : Option FieldType), []),
 some ((⟨"FiveTouchModel", "sumOf", "(Z)J"⟩ : MethodName), prog_25_method_52_code, 7, (some (.long) : Option FieldType), []),
 some ((⟨"FiveTouchModel", "termOf", "(Z)J"⟩ : MethodName), prog_25_method_53_code, 7, (some (.long) : Option FieldType), []),
 some ((⟨"FiveTouchModel", "partOf", "(Z)J"⟩ : MethodName), prog_25_method_54_code, 4, (some (.long) : Option FieldType), []),
 some ((⟨"FiveTouchModel", "passes0", "(I)Z"⟩ : MethodName), prog_25_method_50_code, 3, (some (.boolean) : Option FieldType), []),
 some ((⟨"FiveTouchModel", "bounded", "(JZ)J"⟩ : MethodName), prog_25_method_51_code, 4, (some (.long) : Option FieldType), []),
 some ((⟨"FiveTouchModel", "testOf", "(Z)Z"⟩ : MethodName), prog_25_method_55_code, 4, (some (.boolean) : Option FieldType), []),
 some ((⟨"FiveTouchModel", "bothOf", "(Z)Z"⟩ : MethodName), prog_25_method_56_code, 4, (some (.boolean) : Option FieldType), []),
 some ((⟨"FiveTouchModel", "plainOf", "(Z)Z"⟩ : MethodName), prog_25_method_57_code, 3, (some (.boolean) : Option FieldType), []),
 some ((⟨"FiveTouchModel", "positiveOf", "(Z)Z"⟩ : MethodName), prog_25_method_58_code, 7, (some (.boolean) : Option FieldType), []),
 some ((⟨"FiveTouchModel", "touch", "(II)Z"⟩ : MethodName), prog_25_method_60_code, 6, (some (.boolean) : Option FieldType), []),
 some ((⟨"FiveTouchModel", "ones", "(I)I"⟩ : MethodName), prog_25_method_5_code, 3, (some (.int) : Option FieldType), []),
 some ((⟨"FiveTouchModel", "unlawful", "()I"⟩ : MethodName), prog_25_method_67_code, 3, (some (.int) : Option FieldType), []),
 some ((⟨"FiveTouchModel", "loose", "(I)I"⟩ : MethodName), prog_25_method_63_code, 4, (some (.int) : Option FieldType), []),
 some ((⟨"FiveTouchModel", "stands", "(II)Z"⟩ : MethodName), prog_25_method_62_code, 3, (some (.boolean) : Option FieldType), []),
 some ((⟨"FiveTouchModel", "there", "()I"⟩ : MethodName), prog_25_method_68_code, 1, (some (.int) : Option FieldType), []),
 some ((⟨"FiveTouchModel", "stand", "(I)I"⟩ : MethodName), prog_25_method_69_code, 3, (some (.int) : Option FieldType), []),
 some ((⟨"FiveTouchModel", "falls", "(II)I"⟩ : MethodName), prog_25_method_72_code, 6, (some (.int) : Option FieldType), []),
 some ((⟨"FiveTouchModel", "areThere", "(I)Z"⟩ : MethodName), prog_25_method_70_code, 2, (some (.boolean) : Option FieldType), []),
 some ((⟨"FiveTouchModel", "weightOf", "(I)I"⟩ : MethodName), prog_25_method_71_code, 4, (some (.int) : Option FieldType), []),
 some ((⟨"FiveTouchModel", "round", "(II)I"⟩ : MethodName), prog_25_method_73_code, 5, (some (.int) : Option FieldType), []),
 some ((⟨"FiveTouchModel", "take", "(I)I"⟩ : MethodName), prog_25_method_74_code, 3, (some (.int) : Option FieldType), []),
 some ((⟨"FiveTouchModel", "fall", "(I)I"⟩ : MethodName), prog_25_method_64_code, 3, (some (.int) : Option FieldType), []),
 some ((⟨"FiveTouchModel", "farm", "(II)I"⟩ : MethodName), prog_25_method_75_code, 6, (some (.int) : Option FieldType), []),
 some ((⟨"FiveTouchModel", "once", "(I)I"⟩ : MethodName), prog_25_method_80_code, 2, (some (.int) : Option FieldType), []),
 some ((⟨"FiveTouchModel", "takesMost", "(Z)V"⟩ : MethodName), prog_25_method_78_code, 4, (none : Option FieldType), []),
 some ((⟨"FiveTouchModel", "sets", "()V"⟩ : MethodName), prog_25_method_76_code, 5, (none : Option FieldType), []),
 some ((⟨"FiveTouchModel", "isBetter", "(II)Z"⟩ : MethodName), prog_25_method_77_code, 3, (some (.boolean) : Option FieldType), []),
 some ((⟨"FiveTouchModel", "told", "(I)I"⟩ : MethodName), prog_25_method_79_code, 2, (some (.int) : Option FieldType), []),
 some ((⟨"FiveTouchModel", "oneByOne", "(I)I"⟩ : MethodName), prog_25_method_81_code, 2, (some (.int) : Option FieldType), []),
 some ((⟨"FiveTouchModel", "order", "(I)I"⟩ : MethodName), prog_25_method_82_code, 6, (some (.int) : Option FieldType), []),
 some ((⟨"FiveTouchModel", "fell", "(I)I"⟩ : MethodName), prog_25_method_83_code, 5, (some (.int) : Option FieldType), []),
 some ((⟨"FiveTouchModel", "gate", "(IIIII)I"⟩ : MethodName), prog_25_method_84_code, 9, (some (.int) : Option FieldType), []),
 some ((⟨"FiveTouchModel", "mend", "(I)I"⟩ : MethodName), prog_25_method_85_code, 6, (some (.int) : Option FieldType), []),
 some ((⟨"FiveTouchModel", "game", "(I)I"⟩ : MethodName), prog_25_method_86_code, 6, (some (.int) : Option FieldType), []),
 some ((⟨"FiveTouchModel", "night", "(II)I"⟩ : MethodName), prog_25_method_87_code, 11, (some (.int) : Option FieldType), []),
 some ((⟨"FiveTouchModel", "winters", "(II)I"⟩ : MethodName), prog_25_method_89_code, 8, (some (.int) : Option FieldType), []),
 some ((⟨"FiveTouchModel", "draws", "(I)I"⟩ : MethodName), prog_25_method_88_code, 2, (some (.int) : Option FieldType), []),
 some ((⟨"FiveTouchModel", "winter", "(I)I"⟩ : MethodName), prog_25_method_90_code, 2, (some (.int) : Option FieldType), []),
 some ((⟨"FiveTouchModel", "count", "(I)I"⟩ : MethodName), prog_25_method_91_code, 2, (some (.int) : Option FieldType), []),
 some ((⟨"FiveTouchModel", "status", "()I"⟩ : MethodName), prog_25_method_92_code, 1, (some (.int) : Option FieldType), []),
 some ((⟨"FiveTouch$Stone", "canBe", "(IIIII)Z"⟩ : MethodName), prog_18_method_10_code, 5, (some (.boolean) : Option FieldType), []),
 some ((⟨"FiveTouch$Stone", "<init>", "(IIIII)V"⟩ : MethodName), prog_18_method_1_code, 6, (none : Option FieldType), []),
 some ((⟨"FiveTouch$Stone", "meets", "(LFiveTouch$Stone;)Z"⟩ : MethodName), prog_18_method_6_code, 2, (some (.boolean) : Option FieldType), []),
 some ((⟨"FiveTouch$Stone", "columns", "(LFiveTouch$Stone;)I"⟩ : MethodName), prog_18_method_4_code, 2, (some (.int) : Option FieldType), []),
 some ((⟨"FiveTouch$Stone", "common", "(IIII)I"⟩ : MethodName), prog_18_method_3_code, 4, (some (.int) : Option FieldType), []),
 some ((⟨"FiveTouch$Stone", "rows", "(LFiveTouch$Stone;)I"⟩ : MethodName), prog_18_method_5_code, 2, (some (.int) : Option FieldType), []),
 some ((⟨"FiveTouch$Stone", "has", "(II)Z"⟩ : MethodName), prog_18_method_8_code, 3, (some (.boolean) : Option FieldType), []),
 some ((⟨"FiveTouch$Stone", "sides", "()I"⟩ : MethodName), prog_18_method_9_code, 1, (some (.int) : Option FieldType), []),
 some ((⟨"FiveTouch$Stone", "touches", "(LFiveTouch$Stone;)Z"⟩ : MethodName), prog_18_method_7_code, 2, (some (.boolean) : Option FieldType), []),
 some ((⟨"FiveTouch$Stone", "copy", "()LFiveTouch$Stone;"⟩ : MethodName), prog_18_method_2_code, 2, (some (.object "FiveTouch$Stone") : Option FieldType), []),
 some ((⟨"FiveTouch$Reader", "<init>", "(LFiveTouch;)V"⟩ : MethodName), prog_14_method_1_code, 2, (none : Option FieldType), []),
 some ((⟨"FiveTouch$Reader", "read", "()LFiveTouch$Text;"⟩ : MethodName), prog_14_method_2_code, 4, (some (.object "FiveTouch$Text") : Option FieldType), []),
 some ((⟨"FiveTouch$Reader", "next", "()V"⟩ : MethodName), prog_14_method_3_code, 3, (none : Option FieldType), []),
 some ((⟨"FiveTouch$Reader", "must", "(Z)V"⟩ : MethodName), prog_14_method_7_code, 2, (none : Option FieldType), []),
 some ((⟨"FiveTouch$Reader", "clause", "()LFiveTouch$Clause;"⟩ : MethodName), prog_14_method_9_code, 4, (some (.object "FiveTouch$Clause") : Option FieldType), []),
 some ((⟨"FiveTouch$Reader", "which", "([Ljava/lang/String;)I"⟩ : MethodName), prog_14_method_5_code, 3, (some (.int) : Option FieldType), []),
 some ((⟨"FiveTouch$Reader", "isWord", "(Ljava/lang/String;)Z"⟩ : MethodName), prog_14_method_4_code, 3, (some (.boolean) : Option FieldType), []),
 some ((⟨"FiveTouch$Reader", "sum", "()LFiveTouch$Sum;"⟩ : MethodName), prog_14_method_18_code, 3, (some (.object "FiveTouch$Sum") : Option FieldType), []),
 some ((⟨"FiveTouch$Reader", "term", "()LFiveTouch$Sum;"⟩ : MethodName), prog_14_method_19_code, 3, (some (.object "FiveTouch$Sum") : Option FieldType), []),
 some ((⟨"FiveTouch$Reader", "part", "()LFiveTouch$Sum;"⟩ : MethodName), prog_14_method_20_code, 2, (some (.object "FiveTouch$Sum") : Option FieldType), []),
 some ((⟨"FiveTouch$Reader", "open", "()V"⟩ : MethodName), prog_14_method_14_code, 1, (none : Option FieldType), []),
 some ((⟨"FiveTouch$Reader", "close", "(Ljava/lang/String;)V"⟩ : MethodName), prog_14_method_15_code, 2, (none : Option FieldType), []),
 some ((⟨"FiveTouch$Reader", "accept", "(Ljava/lang/String;)Z"⟩ : MethodName), prog_14_method_6_code, 3, (some (.boolean) : Option FieldType), []),
 some ((⟨"FiveTouch$Reader", "leaf", "()V"⟩ : MethodName), prog_14_method_16_code, 1, (none : Option FieldType), []),
 some ((⟨"FiveTouch$Reader", "number", "(I)I"⟩ : MethodName), prog_14_method_8_code, 4, (some (.int) : Option FieldType), []),
 some ((⟨"FiveTouch$Reader", "test", "()LFiveTouch$Test;"⟩ : MethodName), prog_14_method_10_code, 2, (some (.object "FiveTouch$Test") : Option FieldType), []),
 some ((⟨"FiveTouch$Reader", "both", "()LFiveTouch$Test;"⟩ : MethodName), prog_14_method_11_code, 2, (some (.object "FiveTouch$Test") : Option FieldType), []),
 some ((⟨"FiveTouch$Reader", "plain", "()LFiveTouch$Test;"⟩ : MethodName), prog_14_method_17_code, 5, (some (.object "FiveTouch$Test") : Option FieldType), []),
 some ((⟨"FiveTouch$Reader", "add", "(LFiveTouch$Test;)V"⟩ : MethodName), prog_14_method_12_code, 2, (none : Option FieldType), []),
 some ((⟨"FiveTouch$Reader", "row", "(ZI)LFiveTouch$Test;"⟩ : MethodName), prog_14_method_13_code, 5, (some (.object "FiveTouch$Test") : Option FieldType), []),
 some ((⟨"FiveTouch$Wrong", "<init>", "(I)V"⟩ : MethodName), prog_22_method_1_code, 2, (none : Option FieldType), []),
 some ((⟨"FiveTouch$Sum", "<init>", "()V"⟩ : MethodName), prog_19_method_1_code, 1, (none : Option FieldType), []),
 some ((⟨"FiveTouch$Amount", "<init>", "(I)V"⟩ : MethodName), prog_2_method_1_code, 2, (none : Option FieldType), []),
 some ((⟨"FiveTouch$Amount", "of", "(LFiveTouch$Asked;)J"⟩ : MethodName), prog_2_method_2_code, 2, (some (.long) : Option FieldType), []),
 some ((⟨"FiveTouch$Part", "<init>", "(I)V"⟩ : MethodName), prog_13_method_1_code, 2, (none : Option FieldType), []),
 some ((⟨"FiveTouch$Part", "of", "(LFiveTouch$Asked;)J"⟩ : MethodName), prog_13_method_2_code, 2, (some (.long) : Option FieldType), []),
 some ((⟨"FiveTouch$Joined", "<init>", "(LFiveTouch$Sum;ILFiveTouch$Sum;)V"⟩ : MethodName), prog_9_method_1_code, 4, (none : Option FieldType), []),
 some ((⟨"FiveTouch$Joined", "of", "(LFiveTouch$Asked;)J"⟩ : MethodName), prog_9_method_2_code, 6, (some (.long) : Option FieldType), []),
 some ((⟨"FiveTouch$Test", "<init>", "()V"⟩ : MethodName), prog_20_method_1_code, 1, (none : Option FieldType), []),
 some ((⟨"FiveTouch$Compared", "<init>", "(LFiveTouch$Sum;ILFiveTouch$Sum;)V"⟩ : MethodName), prog_6_method_1_code, 4, (none : Option FieldType), []),
 some ((⟨"FiveTouch$Compared", "of", "(LFiveTouch$Asked;)Z"⟩ : MethodName), prog_6_method_2_code, 6, (some (.boolean) : Option FieldType), []),
 some ((⟨"FiveTouch$Not", "<init>", "(LFiveTouch$Test;)V"⟩ : MethodName), prog_11_method_1_code, 2, (none : Option FieldType), []),
 some ((⟨"FiveTouch$Not", "of", "(LFiveTouch$Asked;)Z"⟩ : MethodName), prog_11_method_2_code, 2, (some (.boolean) : Option FieldType), []),
 some ((⟨"FiveTouch$Row", "<init>", "(Z[LFiveTouch$Test;)V"⟩ : MethodName), prog_15_method_1_code, 3, (none : Option FieldType), []),
 some ((⟨"FiveTouch$Row", "of", "(LFiveTouch$Asked;)Z"⟩ : MethodName), prog_15_method_2_code, 7, (some (.boolean) : Option FieldType), []),
 some ((⟨"FiveTouch$Clause", "<init>", "(ILFiveTouch$Sum;LFiveTouch$Test;)V"⟩ : MethodName), prog_5_method_1_code, 4, (none : Option FieldType), []),
 some ((⟨"FiveTouch$Clause", "holds", "(LFiveTouch$Asked;)Z"⟩ : MethodName), prog_5_method_2_code, 2, (some (.boolean) : Option FieldType), []),
 some ((⟨"FiveTouch$Search", "<init>", "(LFiveTouch;)V"⟩ : MethodName), prog_17_method_1_code, 2, (none : Option FieldType), []),
 some ((⟨"FiveTouch$Search", "go", "(I)V"⟩ : MethodName), prog_17_method_2_code, 3, (none : Option FieldType), []),
 some ((⟨"FiveTouch$AtOnce", "<init>", "(LFiveTouch;)V"⟩ : MethodName), prog_4_method_1_code, 2, (none : Option FieldType), []),
 some ((⟨"FiveTouch$AtOnce", "counts", "(I)Z"⟩ : MethodName), prog_4_method_2_code, 2, (some (.boolean) : Option FieldType), []),
 some ((⟨"FiveTouch$AtOnce", "isBetter", "(II)Z"⟩ : MethodName), prog_4_method_3_code, 3, (some (.boolean) : Option FieldType), []),
 some ((⟨"FiveTouch$OneByOne", "counts", "(I)Z"⟩ : MethodName), prog_12_method_3_code, 2, (some (.boolean) : Option FieldType), []),
 some ((⟨"FiveTouch$OneByOne", "isBetter", "(II)Z"⟩ : MethodName), prog_12_method_4_code, 3, (some (.boolean) : Option FieldType), []),
 some ((⟨"FiveTouch$OneByOne", "<init>", "(LFiveTouch;)V"⟩ : MethodName), prog_12_method_1_code, 3, (none : Option FieldType), []),
 some ((⟨"FiveTouch$OneByOne", "isComeTo", "(I)Z"⟩ : MethodName), prog_12_method_2_code, 3, (some (.boolean) : Option FieldType), []),
 some ((⟨"FiveTouch$Felling", "counts", "(I)Z"⟩ : MethodName), prog_8_method_2_code, 2, (some (.boolean) : Option FieldType), []),
 some ((⟨"FiveTouch$Felling", "isBetter", "(II)Z"⟩ : MethodName), prog_8_method_3_code, 3, (some (.boolean) : Option FieldType), []),
 some ((⟨"FiveTouch$Felling", "<init>", "(LFiveTouch;)V"⟩ : MethodName), prog_8_method_1_code, 2, (none : Option FieldType), []),
 some ((⟨"FiveTouch$Mending", "counts", "(I)Z"⟩ : MethodName), prog_10_method_2_code, 2, (some (.boolean) : Option FieldType), []),
 some ((⟨"FiveTouch$Mending", "isBetter", "(II)Z"⟩ : MethodName), prog_10_method_3_code, 3, (some (.boolean) : Option FieldType), []),
 some ((⟨"FiveTouch$Mending", "<init>", "(LFiveTouch;)V"⟩ : MethodName), prog_10_method_1_code, 2, (none : Option FieldType), []),
 some ((⟨"FiveTouch$Draws", "<init>", "(I)V"⟩ : MethodName), prog_7_method_1_code, 2, (none : Option FieldType), []),
 some ((⟨"FiveTouch$Draws", "of", "(I)I"⟩ : MethodName), prog_7_method_2_code, 2, (some (.int) : Option FieldType), []),
 some ((⟨"java/util/ArrayList", "<init>", "()V"⟩ : MethodName), prog_46_method_2_code, 1, (none : Option FieldType), []),
 some ((⟨"java/util/ArrayList", "size", "()I"⟩ : MethodName), prog_46_method_8_code, 1, (some (.int) : Option FieldType), []),
 some ((⟨"java/util/ArrayList", "get", "(I)Ljava/lang/Object;"⟩ : MethodName), prog_46_method_20_code, 2, (some (.object "java/lang/Object") : Option FieldType), []),
 some ((⟨"java/util/ArrayList", "elementData", "(I)Ljava/lang/Object;"⟩ : MethodName), prog_46_method_18_code, 2, (some (.object "java/lang/Object") : Option FieldType), []),
 some ((⟨"java/util/ArrayList", "add", "(Ljava/lang/Object;)Z"⟩ : MethodName), prog_46_method_25_code, 2, (some (.boolean) : Option FieldType), []),
 some ((⟨"java/util/ArrayList", "add", "(Ljava/lang/Object;[Ljava/lang/Object;I)V"⟩ : MethodName), prog_46_method_24_code, 4, (none : Option FieldType), []),
 some ((⟨"java/util/ArrayList", "grow", "()[Ljava/lang/Object;"⟩ : MethodName), prog_46_method_7_code, 1, (some (.array (.object "java/lang/Object")) : Option FieldType), []),
 some ((⟨"java/util/ArrayList", "grow", "(I)[Ljava/lang/Object;"⟩ : MethodName), prog_46_method_6_code, 4, (some (.array (.object "java/lang/Object")) : Option FieldType), []),
 some ((⟨"java/util/AbstractList", "<init>", "()V"⟩ : MethodName), prog_45_method_1_code, 1, (none : Option FieldType), []),
 some ((⟨"java/util/AbstractCollection", "<init>", "()V"⟩ : MethodName), prog_44_method_1_code, 1, (none : Option FieldType), []),
 some ((⟨"java/util/Objects", "checkIndex", "(II)I"⟩ : MethodName), prog_50_method_17_code, 2, (some (.int) : Option FieldType), []),
 some ((⟨"jdk/internal/util/Preconditions", "checkIndex", "(IILjava/util/function/BiFunction;)I"⟩ : MethodName), prog_54_method_11_code, 3, (some (.int) : Option FieldType), []),
 some ((⟨"jdk/internal/util/ArraysSupport", "newLength", "(III)I"⟩ : MethodName), prog_53_method_27_code, 4, (some (.int) : Option FieldType), []),
 some ((⟨"java/util/Arrays", "copyOf", "([Ljava/lang/Object;I)[Ljava/lang/Object;"⟩ : MethodName), prog_47_method_119_code, 2, (some (.array (.object "java/lang/Object")) : Option FieldType), []),
 some ((⟨"java/util/Arrays", "copyOf", "([Ljava/lang/Object;ILjava/lang/Class;)[Ljava/lang/Object;"⟩ : MethodName), prog_47_method_120_code, 4, (some (.array (.object "java/lang/Object")) : Option FieldType), []),
 some ((⟨"java/lang/String", "length", "()I"⟩ : MethodName), prog_37_method_54_code, 1, (some (.int) : Option FieldType), []),
 some ((⟨"java/lang/String", "charAt", "(I)C"⟩ : MethodName), prog_37_method_56_code, 2, (some (.char) : Option FieldType), []),
 some ((⟨"java/lang/String", "isLatin1", "()Z"⟩ : MethodName), prog_37_method_154_code, 1, (some (.boolean) : Option FieldType), []),
 some ((⟨"java/lang/String", "coder", "()B"⟩ : MethodName), prog_37_method_152_code, 1, (some (.byte) : Option FieldType), []),
 some ((⟨"java/lang/String", "checkIndex", "(II)V"⟩ : MethodName), prog_37_method_155_code, 2, (none : Option FieldType), []),
 some ((⟨"java/lang/StringLatin1", "charAt", "([BI)C"⟩ : MethodName), prog_38_method_2_code, 2, (some (.char) : Option FieldType), []),
 some ((⟨"java/lang/Integer", "bitCount", "(I)I"⟩ : MethodName), prog_33_method_49_code, 1, (some (.int) : Option FieldType), []),
 some ((⟨"java/lang/Integer", "numberOfTrailingZeros", "(I)I"⟩ : MethodName), prog_33_method_48_code, 2, (some (.int) : Option FieldType), []),
 some ((⟨"java/lang/Exception", "<init>", "(Ljava/lang/String;Ljava/lang/Throwable;ZZ)V"⟩ : MethodName), prog_31_method_5_code, 5, (none : Option FieldType), []),
 some ((⟨"java/lang/Throwable", "<init>", "(Ljava/lang/String;Ljava/lang/Throwable;ZZ)V"⟩ : MethodName), prog_41_method_5_code, 5, (none : Option FieldType), [])]
def as_Y0 (y : Nat) : Option as_D := as_Yl.getD y none
abbrev dr1 : as_D := ((⟨"FiveTouch", "<init>", "()V"⟩ : MethodName), prog_1_method_4_code, 1, (none : Option FieldType), [])
theorem yk1 : as_Y0 1 = some ((⟨"FiveTouch", "<init>", "()V"⟩ : MethodName), prog_1_method_4_code, 1, (none : Option FieldType), []) := rfl
theorem mk1 : as_mok ⟨"FiveTouch", "<init>", "()V"⟩ 0 1 := ⟨⟨by decide, by decide, by decide +kernel⟩, by decide⟩
abbrev dr2 : as_D := ((⟨"FiveTouch", "feed", "(IIIII)I"⟩ : MethodName), prog_1_method_10_code, 6, (some (.int) : Option FieldType), [])
theorem yk2 : as_Y0 2 = some ((⟨"FiveTouch", "feed", "(IIIII)I"⟩ : MethodName), prog_1_method_10_code, 6, (some (.int) : Option FieldType), []) := rfl
theorem mk2 : as_mok ⟨"FiveTouch", "feed", "(IIIII)I"⟩ 5 6 := ⟨⟨by decide, by decide, by decide +kernel⟩, by decide⟩
abbrev dr3 : as_D := ((⟨"FiveTouch", "four", "(I)V"⟩ : MethodName), prog_1_method_9_code, 3, (none : Option FieldType), [])
theorem yk3 : as_Y0 3 = some ((⟨"FiveTouch", "four", "(I)V"⟩ : MethodName), prog_1_method_9_code, 3, (none : Option FieldType), []) := rfl
theorem mk3 : as_mok ⟨"FiveTouch", "four", "(I)V"⟩ 1 3 := ⟨⟨by decide, by decide, by decide +kernel⟩, by decide⟩
abbrev dr4 : as_D := ((⟨"FiveTouch", "end", "(I)I"⟩ : MethodName), prog_1_method_11_code, 2, (some (.int) : Option FieldType), [])
theorem yk4 : as_Y0 4 = some ((⟨"FiveTouch", "end", "(I)I"⟩ : MethodName), prog_1_method_11_code, 2, (some (.int) : Option FieldType), []) := rfl
theorem mk4 : as_mok ⟨"FiveTouch", "end", "(I)I"⟩ 1 2 := ⟨⟨by decide, by decide, by decide +kernel⟩, by decide⟩
abbrev dr5 : as_D := ((⟨"FiveTouch", "in", "(JJJ)Z"⟩ : MethodName), prog_1_method_1_code, 6, (some (.boolean) : Option FieldType), [])
theorem yk5 : as_Y0 5 = some ((⟨"FiveTouch", "in", "(JJJ)Z"⟩ : MethodName), prog_1_method_1_code, 6, (some (.boolean) : Option FieldType), []) := rfl
theorem mk5 : as_mok ⟨"FiveTouch", "in", "(JJJ)Z"⟩ 3 6 := ⟨⟨by decide, by decide, by decide +kernel⟩, by decide⟩
abbrev dr6 : as_D := ((⟨"FiveTouch", "stone", "(IIIII)I"⟩ : MethodName), prog_1_method_14_code, 7, (some (.int) : Option FieldType), [])
theorem yk6 : as_Y0 6 = some ((⟨"FiveTouch", "stone", "(IIIII)I"⟩ : MethodName), prog_1_method_14_code, 7, (some (.int) : Option FieldType), []) := rfl
theorem mk6 : as_mok ⟨"FiveTouch", "stone", "(IIIII)I"⟩ 5 7 := ⟨⟨by decide, by decide, by decide +kernel⟩, by decide⟩
abbrev dr7 : as_D := ((⟨"FiveTouch", "tell", "(I)I"⟩ : MethodName), prog_1_method_5_code, 2, (some (.int) : Option FieldType), [])
theorem yk7 : as_Y0 7 = some ((⟨"FiveTouch", "tell", "(I)I"⟩ : MethodName), prog_1_method_5_code, 2, (some (.int) : Option FieldType), []) := rfl
theorem mk7 : as_mok ⟨"FiveTouch", "tell", "(I)I"⟩ 1 2 := ⟨⟨by decide, by decide, by decide +kernel⟩, by decide⟩
abbrev dr8 : as_D := ((⟨"FiveTouch", "was", "(I)I"⟩ : MethodName), prog_1_method_6_code, 2, (some (.int) : Option FieldType), [])
theorem yk8 : as_Y0 8 = some ((⟨"FiveTouch", "was", "(I)I"⟩ : MethodName), prog_1_method_6_code, 2, (some (.int) : Option FieldType), []) := rfl
theorem mk8 : as_mok ⟨"FiveTouch", "was", "(I)I"⟩ 1 2 := ⟨⟨by decide, by decide, by decide +kernel⟩, by decide⟩
abbrev dr9 : as_D := ((⟨"FiveTouch", "spare", "(IIIII)I"⟩ : MethodName), prog_1_method_15_code, 7, (some (.int) : Option FieldType), [])
theorem yk9 : as_Y0 9 = some ((⟨"FiveTouch", "spare", "(IIIII)I"⟩ : MethodName), prog_1_method_15_code, 7, (some (.int) : Option FieldType), []) := rfl
theorem mk9 : as_mok ⟨"FiveTouch", "spare", "(IIIII)I"⟩ 5 7 := ⟨⟨by decide, by decide, by decide +kernel⟩, by decide⟩
abbrev dr10 : as_D := ((⟨"FiveTouch", "put", "(III)I"⟩ : MethodName), prog_1_method_16_code, 6, (some (.int) : Option FieldType), [])
theorem yk10 : as_Y0 10 = some ((⟨"FiveTouch", "put", "(III)I"⟩ : MethodName), prog_1_method_16_code, 6, (some (.int) : Option FieldType), []) := rfl
theorem mk10 : as_mok ⟨"FiveTouch", "put", "(III)I"⟩ 3 6 := ⟨⟨by decide, by decide, by decide +kernel⟩, by decide⟩
abbrev dr11 : as_D := ((⟨"FiveTouch", "isStone", "(I)Z"⟩ : MethodName), prog_1_method_7_code, 2, (some (.boolean) : Option FieldType), [])
theorem yk11 : as_Y0 11 = some ((⟨"FiveTouch", "isStone", "(I)Z"⟩ : MethodName), prog_1_method_7_code, 2, (some (.boolean) : Option FieldType), []) := rfl
theorem mk11 : as_mok ⟨"FiveTouch", "isStone", "(I)Z"⟩ 1 2 := ⟨⟨by decide, by decide, by decide +kernel⟩, by decide⟩
abbrev dr12 : as_D := ((⟨"FiveTouch", "of", "(II)I"⟩ : MethodName), prog_1_method_17_code, 4, (some (.int) : Option FieldType), [])
theorem yk12 : as_Y0 12 = some ((⟨"FiveTouch", "of", "(II)I"⟩ : MethodName), prog_1_method_17_code, 4, (some (.int) : Option FieldType), []) := rfl
theorem mk12 : as_mok ⟨"FiveTouch", "of", "(II)I"⟩ 2 4 := ⟨⟨by decide, by decide, by decide +kernel⟩, by decide⟩
abbrev dr13 : as_D := ((⟨"FiveTouch", "has", "(II)Z"⟩ : MethodName), prog_1_method_2_code, 2, (some (.boolean) : Option FieldType), [])
theorem yk13 : as_Y0 13 = some ((⟨"FiveTouch", "has", "(II)Z"⟩ : MethodName), prog_1_method_2_code, 2, (some (.boolean) : Option FieldType), []) := rfl
theorem mk13 : as_mok ⟨"FiveTouch", "has", "(II)Z"⟩ 2 2 := ⟨⟨by decide, by decide, by decide +kernel⟩, by decide⟩
abbrev dr14 : as_D := ((⟨"FiveTouch", "terms", "(II)I"⟩ : MethodName), prog_1_method_18_code, 4, (some (.int) : Option FieldType), [])
theorem yk14 : as_Y0 14 = some ((⟨"FiveTouch", "terms", "(II)I"⟩ : MethodName), prog_1_method_18_code, 4, (some (.int) : Option FieldType), []) := rfl
theorem mk14 : as_mok ⟨"FiveTouch", "terms", "(II)I"⟩ 2 4 := ⟨⟨by decide, by decide, by decide +kernel⟩, by decide⟩
abbrev dr15 : as_D := ((⟨"FiveTouch", "row", "()I"⟩ : MethodName), prog_1_method_20_code, 8, (some (.int) : Option FieldType), [(58, 67, 218, 196), (58, 67, 374, 0), (218, 223, 374, 0), (374, 376, 374, 0)])
theorem yk15 : as_Y0 15 = some ((⟨"FiveTouch", "row", "()I"⟩ : MethodName), prog_1_method_20_code, 8, (some (.int) : Option FieldType), [(58, 67, 218, 196), (58, 67, 374, 0), (218, 223, 374, 0), (374, 376, 374, 0)]) := rfl
theorem mk15 : as_mok ⟨"FiveTouch", "row", "()I"⟩ 0 8 := ⟨⟨by decide, by decide, by decide +kernel⟩, by decide⟩
abbrev dr16 : as_D := ((⟨"FiveTouch", "byteAt", "([BI)I"⟩ : MethodName), prog_1_method_19_code, 2, (some (.int) : Option FieldType), [])
theorem yk16 : as_Y0 16 = some ((⟨"FiveTouch", "byteAt", "([BI)I"⟩ : MethodName), prog_1_method_19_code, 2, (some (.int) : Option FieldType), []) := rfl
theorem mk16 : as_mok ⟨"FiveTouch", "byteAt", "([BI)I"⟩ 2 2 := ⟨⟨by decide, by decide, by decide +kernel⟩, by decide⟩
abbrev dr17 : as_D := ((⟨"FiveTouch", "add", "(LFiveTouch$Stone;)Z"⟩ : MethodName), prog_1_method_21_code, 2, (some (.boolean) : Option FieldType), [])
theorem yk17 : as_Y0 17 = some ((⟨"FiveTouch", "add", "(LFiveTouch$Stone;)Z"⟩ : MethodName), prog_1_method_21_code, 2, (some (.boolean) : Option FieldType), []) := rfl
theorem mk17 : as_mok ⟨"FiveTouch", "add", "(LFiveTouch$Stone;)Z"⟩ 1 2 := ⟨⟨by decide, by decide, by decide +kernel⟩, by decide⟩
abbrev dr18 : as_D := ((⟨"FiveTouch", "rubble", "()I"⟩ : MethodName), prog_1_method_22_code, 1, (some (.int) : Option FieldType), [])
theorem yk18 : as_Y0 18 = some ((⟨"FiveTouch", "rubble", "()I"⟩ : MethodName), prog_1_method_22_code, 1, (some (.int) : Option FieldType), []) := rfl
theorem mk18 : as_mok ⟨"FiveTouch", "rubble", "()I"⟩ 0 1 := ⟨⟨by decide, by decide, by decide +kernel⟩, by decide⟩
abbrev dr19 : as_D := ((⟨"FiveTouch", "law", "()I"⟩ : MethodName), prog_1_method_23_code, 4, (some (.int) : Option FieldType), [(27, 71, 78, 208), (27, 71, 101, 0), (78, 94, 101, 0)])
theorem yk19 : as_Y0 19 = some ((⟨"FiveTouch", "law", "()I"⟩ : MethodName), prog_1_method_23_code, 4, (some (.int) : Option FieldType), [(27, 71, 78, 208), (27, 71, 101, 0), (78, 94, 101, 0)]) := rfl
theorem mk19 : as_mok ⟨"FiveTouch", "law", "()I"⟩ 0 4 := ⟨⟨by decide, by decide, by decide +kernel⟩, by decide⟩
abbrev dr20 : as_D := ((⟨"FiveTouch", "isLetter", "(I)Z"⟩ : MethodName), prog_1_method_12_code, 1, (some (.boolean) : Option FieldType), [])
theorem yk20 : as_Y0 20 = some ((⟨"FiveTouch", "isLetter", "(I)Z"⟩ : MethodName), prog_1_method_12_code, 1, (some (.boolean) : Option FieldType), []) := rfl
theorem mk20 : as_mok ⟨"FiveTouch", "isLetter", "(I)Z"⟩ 1 1 := ⟨⟨by decide, by decide, by decide +kernel⟩, by decide⟩
abbrev dr21 : as_D := ((⟨"FiveTouch", "isDigit", "(I)Z"⟩ : MethodName), prog_1_method_13_code, 1, (some (.boolean) : Option FieldType), [])
theorem yk21 : as_Y0 21 = some ((⟨"FiveTouch", "isDigit", "(I)Z"⟩ : MethodName), prog_1_method_13_code, 1, (some (.boolean) : Option FieldType), []) := rfl
theorem mk21 : as_mok ⟨"FiveTouch", "isDigit", "(I)Z"⟩ 1 1 := ⟨⟨by decide, by decide, by decide +kernel⟩, by decide⟩
abbrev dr22 : as_D := ((⟨"FiveTouch", "fault", "()I"⟩ : MethodName), prog_1_method_24_code, 1, (some (.int) : Option FieldType), [])
theorem yk22 : as_Y0 22 = some ((⟨"FiveTouch", "fault", "()I"⟩ : MethodName), prog_1_method_24_code, 1, (some (.int) : Option FieldType), []) := rfl
theorem mk22 : as_mok ⟨"FiveTouch", "fault", "()I"⟩ 0 1 := ⟨⟨by decide, by decide, by decide +kernel⟩, by decide⟩
abbrev dr23 : as_D := ((⟨"FiveTouch", "force", "(I)I"⟩ : MethodName), prog_1_method_25_code, 3, (some (.int) : Option FieldType), [])
theorem yk23 : as_Y0 23 = some ((⟨"FiveTouch", "force", "(I)I"⟩ : MethodName), prog_1_method_25_code, 3, (some (.int) : Option FieldType), []) := rfl
theorem mk23 : as_mok ⟨"FiveTouch", "force", "(I)I"⟩ 1 3 := ⟨⟨by decide, by decide, by decide +kernel⟩, by decide⟩
abbrev dr24 : as_D := ((⟨"FiveTouch", "at", "(II)I"⟩ : MethodName), prog_1_method_26_code, 4, (some (.int) : Option FieldType), [])
theorem yk24 : as_Y0 24 = some ((⟨"FiveTouch", "at", "(II)I"⟩ : MethodName), prog_1_method_26_code, 4, (some (.int) : Option FieldType), []) := rfl
theorem mk24 : as_mok ⟨"FiveTouch", "at", "(II)I"⟩ 2 4 := ⟨⟨by decide, by decide, by decide +kernel⟩, by decide⟩
abbrev dr25 : as_D := ((⟨"FiveTouch", "touches", "(II)I"⟩ : MethodName), prog_1_method_27_code, 4, (some (.int) : Option FieldType), [])
theorem yk25 : as_Y0 25 = some ((⟨"FiveTouch", "touches", "(II)I"⟩ : MethodName), prog_1_method_27_code, 4, (some (.int) : Option FieldType), []) := rfl
theorem mk25 : as_mok ⟨"FiveTouch", "touches", "(II)I"⟩ 2 4 := ⟨⟨by decide, by decide, by decide +kernel⟩, by decide⟩
abbrev dr26 : as_D := ((⟨"FiveTouch", "size", "(I)I"⟩ : MethodName), prog_1_method_3_code, 1, (some (.int) : Option FieldType), [])
theorem yk26 : as_Y0 26 = some ((⟨"FiveTouch", "size", "(I)I"⟩ : MethodName), prog_1_method_3_code, 1, (some (.int) : Option FieldType), []) := rfl
theorem mk26 : as_mok ⟨"FiveTouch", "size", "(I)I"⟩ 1 1 := ⟨⟨by decide, by decide, by decide +kernel⟩, by decide⟩
abbrev dr27 : as_D := ((⟨"FiveTouch", "unlawful", "()I"⟩ : MethodName), prog_1_method_28_code, 2, (some (.int) : Option FieldType), [])
theorem yk27 : as_Y0 27 = some ((⟨"FiveTouch", "unlawful", "()I"⟩ : MethodName), prog_1_method_28_code, 2, (some (.int) : Option FieldType), []) := rfl
theorem mk27 : as_mok ⟨"FiveTouch", "unlawful", "()I"⟩ 0 2 := ⟨⟨by decide, by decide, by decide +kernel⟩, by decide⟩
abbrev dr28 : as_D := ((⟨"FiveTouch", "there", "()I"⟩ : MethodName), prog_1_method_29_code, 1, (some (.int) : Option FieldType), [])
theorem yk28 : as_Y0 28 = some ((⟨"FiveTouch", "there", "()I"⟩ : MethodName), prog_1_method_29_code, 1, (some (.int) : Option FieldType), []) := rfl
theorem mk28 : as_mok ⟨"FiveTouch", "there", "()I"⟩ 0 1 := ⟨⟨by decide, by decide, by decide +kernel⟩, by decide⟩
abbrev dr29 : as_D := ((⟨"FiveTouch", "stand", "(I)I"⟩ : MethodName), prog_1_method_30_code, 3, (some (.int) : Option FieldType), [])
theorem yk29 : as_Y0 29 = some ((⟨"FiveTouch", "stand", "(I)I"⟩ : MethodName), prog_1_method_30_code, 3, (some (.int) : Option FieldType), []) := rfl
theorem mk29 : as_mok ⟨"FiveTouch", "stand", "(I)I"⟩ 1 3 := ⟨⟨by decide, by decide, by decide +kernel⟩, by decide⟩
abbrev dr30 : as_D := ((⟨"FiveTouch", "falls", "(II)I"⟩ : MethodName), prog_1_method_32_code, 8, (some (.int) : Option FieldType), [])
theorem yk30 : as_Y0 30 = some ((⟨"FiveTouch", "falls", "(II)I"⟩ : MethodName), prog_1_method_32_code, 8, (some (.int) : Option FieldType), []) := rfl
theorem mk30 : as_mok ⟨"FiveTouch", "falls", "(II)I"⟩ 2 8 := ⟨⟨by decide, by decide, by decide +kernel⟩, by decide⟩
abbrev dr31 : as_D := ((⟨"FiveTouch", "areThere", "(I)Z"⟩ : MethodName), prog_1_method_8_code, 2, (some (.boolean) : Option FieldType), [])
theorem yk31 : as_Y0 31 = some ((⟨"FiveTouch", "areThere", "(I)Z"⟩ : MethodName), prog_1_method_8_code, 2, (some (.boolean) : Option FieldType), []) := rfl
theorem mk31 : as_mok ⟨"FiveTouch", "areThere", "(I)Z"⟩ 1 2 := ⟨⟨by decide, by decide, by decide +kernel⟩, by decide⟩
abbrev dr32 : as_D := ((⟨"FiveTouch", "weight", "(I)I"⟩ : MethodName), prog_1_method_31_code, 4, (some (.int) : Option FieldType), [])
theorem yk32 : as_Y0 32 = some ((⟨"FiveTouch", "weight", "(I)I"⟩ : MethodName), prog_1_method_31_code, 4, (some (.int) : Option FieldType), []) := rfl
theorem mk32 : as_mok ⟨"FiveTouch", "weight", "(I)I"⟩ 1 4 := ⟨⟨by decide, by decide, by decide +kernel⟩, by decide⟩
abbrev dr33 : as_D := ((⟨"FiveTouch", "round", "(II)I"⟩ : MethodName), prog_1_method_33_code, 7, (some (.int) : Option FieldType), [])
theorem yk33 : as_Y0 33 = some ((⟨"FiveTouch", "round", "(II)I"⟩ : MethodName), prog_1_method_33_code, 7, (some (.int) : Option FieldType), []) := rfl
theorem mk33 : as_mok ⟨"FiveTouch", "round", "(II)I"⟩ 2 7 := ⟨⟨by decide, by decide, by decide +kernel⟩, by decide⟩
abbrev dr34 : as_D := ((⟨"FiveTouch", "take", "(I)I"⟩ : MethodName), prog_1_method_34_code, 3, (some (.int) : Option FieldType), [])
theorem yk34 : as_Y0 34 = some ((⟨"FiveTouch", "take", "(I)I"⟩ : MethodName), prog_1_method_34_code, 3, (some (.int) : Option FieldType), []) := rfl
theorem mk34 : as_mok ⟨"FiveTouch", "take", "(I)I"⟩ 1 3 := ⟨⟨by decide, by decide, by decide +kernel⟩, by decide⟩
abbrev dr35 : as_D := ((⟨"FiveTouch", "farm", "(II)I"⟩ : MethodName), prog_1_method_35_code, 6, (some (.int) : Option FieldType), [])
theorem yk35 : as_Y0 35 = some ((⟨"FiveTouch", "farm", "(II)I"⟩ : MethodName), prog_1_method_35_code, 6, (some (.int) : Option FieldType), []) := rfl
theorem mk35 : as_mok ⟨"FiveTouch", "farm", "(II)I"⟩ 2 6 := ⟨⟨by decide, by decide, by decide +kernel⟩, by decide⟩
abbrev dr36 : as_D := ((⟨"FiveTouch", "gate", "(IIIII)I"⟩ : MethodName), prog_1_method_36_code, 9, (some (.int) : Option FieldType), [])
theorem yk36 : as_Y0 36 = some ((⟨"FiveTouch", "gate", "(IIIII)I"⟩ : MethodName), prog_1_method_36_code, 9, (some (.int) : Option FieldType), []) := rfl
theorem mk36 : as_mok ⟨"FiveTouch", "gate", "(IIIII)I"⟩ 5 9 := ⟨⟨by decide, by decide, by decide +kernel⟩, by decide⟩
abbrev dr37 : as_D := ((⟨"FiveTouch", "once", "(I)I"⟩ : MethodName), prog_1_method_39_code, 2, (some (.int) : Option FieldType), [])
theorem yk37 : as_Y0 37 = some ((⟨"FiveTouch", "once", "(I)I"⟩ : MethodName), prog_1_method_39_code, 2, (some (.int) : Option FieldType), []) := rfl
theorem mk37 : as_mok ⟨"FiveTouch", "once", "(I)I"⟩ 1 2 := ⟨⟨by decide, by decide, by decide +kernel⟩, by decide⟩
abbrev dr38 : as_D := ((⟨"FiveTouch", "isMore", "(II)Z"⟩ : MethodName), prog_1_method_37_code, 3, (some (.boolean) : Option FieldType), [])
theorem yk38 : as_Y0 38 = some ((⟨"FiveTouch", "isMore", "(II)Z"⟩ : MethodName), prog_1_method_37_code, 3, (some (.boolean) : Option FieldType), []) := rfl
theorem mk38 : as_mok ⟨"FiveTouch", "isMore", "(II)Z"⟩ 2 3 := ⟨⟨by decide, by decide, by decide +kernel⟩, by decide⟩
abbrev dr39 : as_D := ((⟨"FiveTouch", "told", "(LFiveTouch$Search;I)I"⟩ : MethodName), prog_1_method_38_code, 3, (some (.int) : Option FieldType), [])
theorem yk39 : as_Y0 39 = some ((⟨"FiveTouch", "told", "(LFiveTouch$Search;I)I"⟩ : MethodName), prog_1_method_38_code, 3, (some (.int) : Option FieldType), []) := rfl
theorem mk39 : as_mok ⟨"FiveTouch", "told", "(LFiveTouch$Search;I)I"⟩ 2 3 := ⟨⟨by decide, by decide, by decide +kernel⟩, by decide⟩
abbrev dr40 : as_D := ((⟨"FiveTouch", "oneByOne", "(I)I"⟩ : MethodName), prog_1_method_40_code, 2, (some (.int) : Option FieldType), [])
theorem yk40 : as_Y0 40 = some ((⟨"FiveTouch", "oneByOne", "(I)I"⟩ : MethodName), prog_1_method_40_code, 2, (some (.int) : Option FieldType), []) := rfl
theorem mk40 : as_mok ⟨"FiveTouch", "oneByOne", "(I)I"⟩ 1 2 := ⟨⟨by decide, by decide, by decide +kernel⟩, by decide⟩
abbrev dr41 : as_D := ((⟨"FiveTouch", "order", "(I)I"⟩ : MethodName), prog_1_method_41_code, 8, (some (.int) : Option FieldType), [])
theorem yk41 : as_Y0 41 = some ((⟨"FiveTouch", "order", "(I)I"⟩ : MethodName), prog_1_method_41_code, 8, (some (.int) : Option FieldType), []) := rfl
theorem mk41 : as_mok ⟨"FiveTouch", "order", "(I)I"⟩ 1 8 := ⟨⟨by decide, by decide, by decide +kernel⟩, by decide⟩
abbrev dr42 : as_D := ((⟨"FiveTouch", "fell", "(I)I"⟩ : MethodName), prog_1_method_43_code, 3, (some (.int) : Option FieldType), [])
theorem yk42 : as_Y0 42 = some ((⟨"FiveTouch", "fell", "(I)I"⟩ : MethodName), prog_1_method_43_code, 3, (some (.int) : Option FieldType), []) := rfl
theorem mk42 : as_mok ⟨"FiveTouch", "fell", "(I)I"⟩ 1 3 := ⟨⟨by decide, by decide, by decide +kernel⟩, by decide⟩
abbrev dr43 : as_D := ((⟨"FiveTouch", "asFew", "(LFiveTouch$Search;I)I"⟩ : MethodName), prog_1_method_42_code, 5, (some (.int) : Option FieldType), [])
theorem yk43 : as_Y0 43 = some ((⟨"FiveTouch", "asFew", "(LFiveTouch$Search;I)I"⟩ : MethodName), prog_1_method_42_code, 5, (some (.int) : Option FieldType), []) := rfl
theorem mk43 : as_mok ⟨"FiveTouch", "asFew", "(LFiveTouch$Search;I)I"⟩ 2 5 := ⟨⟨by decide, by decide, by decide +kernel⟩, by decide⟩
abbrev dr44 : as_D := ((⟨"FiveTouch", "mend", "(I)I"⟩ : MethodName), prog_1_method_44_code, 3, (some (.int) : Option FieldType), [])
theorem yk44 : as_Y0 44 = some ((⟨"FiveTouch", "mend", "(I)I"⟩ : MethodName), prog_1_method_44_code, 3, (some (.int) : Option FieldType), []) := rfl
theorem mk44 : as_mok ⟨"FiveTouch", "mend", "(I)I"⟩ 1 3 := ⟨⟨by decide, by decide, by decide +kernel⟩, by decide⟩
abbrev dr45 : as_D := ((⟨"FiveTouch", "game", "(I)I"⟩ : MethodName), prog_1_method_45_code, 6, (some (.int) : Option FieldType), [])
theorem yk45 : as_Y0 45 = some ((⟨"FiveTouch", "game", "(I)I"⟩ : MethodName), prog_1_method_45_code, 6, (some (.int) : Option FieldType), []) := rfl
theorem mk45 : as_mok ⟨"FiveTouch", "game", "(I)I"⟩ 1 6 := ⟨⟨by decide, by decide, by decide +kernel⟩, by decide⟩
abbrev dr46 : as_D := ((⟨"FiveTouch", "winner", "(LFiveTouch$Scene;I)I"⟩ : MethodName), prog_1_method_46_code, 4, (some (.int) : Option FieldType), [])
theorem yk46 : as_Y0 46 = some ((⟨"FiveTouch", "winner", "(LFiveTouch$Scene;I)I"⟩ : MethodName), prog_1_method_46_code, 4, (some (.int) : Option FieldType), []) := rfl
theorem mk46 : as_mok ⟨"FiveTouch", "winner", "(LFiveTouch$Scene;I)I"⟩ 2 4 := ⟨⟨by decide, by decide, by decide +kernel⟩, by decide⟩
abbrev dr47 : as_D := ((⟨"FiveTouch", "night", "(II)I"⟩ : MethodName), prog_1_method_47_code, 11, (some (.int) : Option FieldType), [])
theorem yk47 : as_Y0 47 = some ((⟨"FiveTouch", "night", "(II)I"⟩ : MethodName), prog_1_method_47_code, 11, (some (.int) : Option FieldType), []) := rfl
theorem mk47 : as_mok ⟨"FiveTouch", "night", "(II)I"⟩ 2 11 := ⟨⟨by decide, by decide, by decide +kernel⟩, by decide⟩
abbrev dr48 : as_D := ((⟨"FiveTouch", "winters", "(II)I"⟩ : MethodName), prog_1_method_48_code, 9, (some (.int) : Option FieldType), [])
theorem yk48 : as_Y0 48 = some ((⟨"FiveTouch", "winters", "(II)I"⟩ : MethodName), prog_1_method_48_code, 9, (some (.int) : Option FieldType), []) := rfl
theorem mk48 : as_mok ⟨"FiveTouch", "winters", "(II)I"⟩ 2 9 := ⟨⟨by decide, by decide, by decide +kernel⟩, by decide⟩
abbrev dr49 : as_D := ((⟨"FiveTouch", "putBack", "(LFiveTouch$Scene;I)I"⟩ : MethodName), prog_1_method_49_code, 7, (some (.int) : Option FieldType), [])
theorem yk49 : as_Y0 49 = some ((⟨"FiveTouch", "putBack", "(LFiveTouch$Scene;I)I"⟩ : MethodName), prog_1_method_49_code, 7, (some (.int) : Option FieldType), []) := rfl
theorem mk49 : as_mok ⟨"FiveTouch", "putBack", "(LFiveTouch$Scene;I)I"⟩ 2 7 := ⟨⟨by decide, by decide, by decide +kernel⟩, by decide⟩
abbrev dr50 : as_D := ((⟨"FiveTouch", "winter", "(I)I"⟩ : MethodName), prog_1_method_50_code, 2, (some (.int) : Option FieldType), [])
theorem yk50 : as_Y0 50 = some ((⟨"FiveTouch", "winter", "(I)I"⟩ : MethodName), prog_1_method_50_code, 2, (some (.int) : Option FieldType), []) := rfl
theorem mk50 : as_mok ⟨"FiveTouch", "winter", "(I)I"⟩ 1 2 := ⟨⟨by decide, by decide, by decide +kernel⟩, by decide⟩
abbrev dr51 : as_D := ((⟨"FiveTouch", "image", "(I)I"⟩ : MethodName), prog_1_method_51_code, 2, (some (.int) : Option FieldType), [])
theorem yk51 : as_Y0 51 = some ((⟨"FiveTouch", "image", "(I)I"⟩ : MethodName), prog_1_method_51_code, 2, (some (.int) : Option FieldType), []) := rfl
theorem mk51 : as_mok ⟨"FiveTouch", "image", "(I)I"⟩ 1 2 := ⟨⟨by decide, by decide, by decide +kernel⟩, by decide⟩
abbrev dr52 : as_D := ((⟨"FiveTouch", "back", "(I)I"⟩ : MethodName), prog_1_method_52_code, 2, (some (.int) : Option FieldType), [])
theorem yk52 : as_Y0 52 = some ((⟨"FiveTouch", "back", "(I)I"⟩ : MethodName), prog_1_method_52_code, 2, (some (.int) : Option FieldType), []) := rfl
theorem mk52 : as_mok ⟨"FiveTouch", "back", "(I)I"⟩ 1 2 := ⟨⟨by decide, by decide, by decide +kernel⟩, by decide⟩
abbrev dr53 : as_D := ((⟨"FiveTouch", "count", "(I)I"⟩ : MethodName), prog_1_method_53_code, 2, (some (.int) : Option FieldType), [])
theorem yk53 : as_Y0 53 = some ((⟨"FiveTouch", "count", "(I)I"⟩ : MethodName), prog_1_method_53_code, 2, (some (.int) : Option FieldType), []) := rfl
theorem mk53 : as_mok ⟨"FiveTouch", "count", "(I)I"⟩ 1 2 := ⟨⟨by decide, by decide, by decide +kernel⟩, by decide⟩
abbrev dr54 : as_D := ((⟨"FiveTouch", "status", "()I"⟩ : MethodName), prog_1_method_54_code, 1, (some (.int) : Option FieldType), [])
theorem yk54 : as_Y0 54 = some ((⟨"FiveTouch", "status", "()I"⟩ : MethodName), prog_1_method_54_code, 1, (some (.int) : Option FieldType), []) := rfl
theorem mk54 : as_mok ⟨"FiveTouch", "status", "()I"⟩ 0 1 := ⟨⟨by decide, by decide, by decide +kernel⟩, by decide⟩
abbrev dr55 : as_D := ((⟨"FiveTouch$Yard", "<init>", "()V"⟩ : MethodName), prog_23_method_1_code, 1, (none : Option FieldType), [])
theorem yk55 : as_Y0 55 = some ((⟨"FiveTouch$Yard", "<init>", "()V"⟩ : MethodName), prog_23_method_1_code, 1, (none : Option FieldType), []) := rfl
theorem mk55 : as_mok ⟨"FiveTouch$Yard", "<init>", "()V"⟩ 0 1 := ⟨⟨by decide, by decide, by decide +kernel⟩, by decide⟩
abbrev dr56 : as_D := ((⟨"FiveTouch$Yard", "isFree", "(LFiveTouch$Stone;)Z"⟩ : MethodName), prog_23_method_5_code, 3, (some (.boolean) : Option FieldType), [])
theorem yk56 : as_Y0 56 = some ((⟨"FiveTouch$Yard", "isFree", "(LFiveTouch$Stone;)Z"⟩ : MethodName), prog_23_method_5_code, 3, (some (.boolean) : Option FieldType), []) := rfl
theorem mk56 : as_mok ⟨"FiveTouch$Yard", "isFree", "(LFiveTouch$Stone;)Z"⟩ 1 3 := ⟨⟨by decide, by decide, by decide +kernel⟩, by decide⟩
abbrev dr57 : as_D := ((⟨"FiveTouch$Yard", "of", "(I)LFiveTouch$Stone;"⟩ : MethodName), prog_23_method_4_code, 2, (some (.object "FiveTouch$Stone") : Option FieldType), [])
theorem yk57 : as_Y0 57 = some ((⟨"FiveTouch$Yard", "of", "(I)LFiveTouch$Stone;"⟩ : MethodName), prog_23_method_4_code, 2, (some (.object "FiveTouch$Stone") : Option FieldType), []) := rfl
theorem mk57 : as_mok ⟨"FiveTouch$Yard", "of", "(I)LFiveTouch$Stone;"⟩ 1 2 := ⟨⟨by decide, by decide, by decide +kernel⟩, by decide⟩
abbrev dr58 : as_D := ((⟨"FiveTouch$Yard", "law", "(LFiveTouch$Text;)LFiveTouch$Text;"⟩ : MethodName), prog_23_method_3_code, 2, (some (.object "FiveTouch$Text") : Option FieldType), [])
theorem yk58 : as_Y0 58 = some ((⟨"FiveTouch$Yard", "law", "(LFiveTouch$Text;)LFiveTouch$Text;"⟩ : MethodName), prog_23_method_3_code, 2, (some (.object "FiveTouch$Text") : Option FieldType), []) := rfl
theorem mk58 : as_mok ⟨"FiveTouch$Yard", "law", "(LFiveTouch$Text;)LFiveTouch$Text;"⟩ 1 2 := ⟨⟨by decide, by decide, by decide +kernel⟩, by decide⟩
abbrev dr59 : as_D := ((⟨"FiveTouch$Yard", "copy", "()LFiveTouch$Yard;"⟩ : MethodName), prog_23_method_2_code, 3, (some (.object "FiveTouch$Yard") : Option FieldType), [])
theorem yk59 : as_Y0 59 = some ((⟨"FiveTouch$Yard", "copy", "()LFiveTouch$Yard;"⟩ : MethodName), prog_23_method_2_code, 3, (some (.object "FiveTouch$Yard") : Option FieldType), []) := rfl
theorem mk59 : as_mok ⟨"FiveTouch$Yard", "copy", "()LFiveTouch$Yard;"⟩ 0 3 := ⟨⟨by decide, by decide, by decide +kernel⟩, by decide⟩
abbrev dr60 : as_D := ((⟨"FiveTouch$Asked", "<init>", "()V"⟩ : MethodName), prog_3_method_1_code, 1, (none : Option FieldType), [])
theorem yk60 : as_Y0 60 = some ((⟨"FiveTouch$Asked", "<init>", "()V"⟩ : MethodName), prog_3_method_1_code, 1, (none : Option FieldType), []) := rfl
theorem mk60 : as_mok ⟨"FiveTouch$Asked", "<init>", "()V"⟩ 0 1 := ⟨⟨by decide, by decide, by decide +kernel⟩, by decide⟩
abbrev dr61 : as_D := ((⟨"FiveTouch$Asked", "within", "(J)J"⟩ : MethodName), prog_3_method_2_code, 3, (some (.long) : Option FieldType), [])
theorem yk61 : as_Y0 61 = some ((⟨"FiveTouch$Asked", "within", "(J)J"⟩ : MethodName), prog_3_method_2_code, 3, (some (.long) : Option FieldType), []) := rfl
theorem mk61 : as_mok ⟨"FiveTouch$Asked", "within", "(J)J"⟩ 1 3 := ⟨⟨by decide, by decide, by decide +kernel⟩, by decide⟩
abbrev dr62 : as_D := ((⟨"FiveTouch$Text", "<init>", "([LFiveTouch$Clause;)V"⟩ : MethodName), prog_21_method_1_code, 2, (none : Option FieldType), [])
theorem yk62 : as_Y0 62 = some ((⟨"FiveTouch$Text", "<init>", "([LFiveTouch$Clause;)V"⟩ : MethodName), prog_21_method_1_code, 2, (none : Option FieldType), []) := rfl
theorem mk62 : as_mok ⟨"FiveTouch$Text", "<init>", "([LFiveTouch$Clause;)V"⟩ 1 2 := ⟨⟨by decide, by decide, by decide +kernel⟩, by decide⟩
abbrev dr63 : as_D := ((⟨"FiveTouch$Text", "tells", "(ILFiveTouch$Asked;J)J"⟩ : MethodName), prog_21_method_3_code, 8, (some (.long) : Option FieldType), [])
theorem yk63 : as_Y0 63 = some ((⟨"FiveTouch$Text", "tells", "(ILFiveTouch$Asked;J)J"⟩ : MethodName), prog_21_method_3_code, 8, (some (.long) : Option FieldType), []) := rfl
theorem mk63 : as_mok ⟨"FiveTouch$Text", "tells", "(ILFiveTouch$Asked;J)J"⟩ 3 8 := ⟨⟨by decide, by decide, by decide +kernel⟩, by decide⟩
abbrev dr64 : as_D := ((⟨"FiveTouch$Text", "has", "(ILFiveTouch$Asked;)Z"⟩ : MethodName), prog_21_method_2_code, 4, (some (.boolean) : Option FieldType), [])
theorem yk64 : as_Y0 64 = some ((⟨"FiveTouch$Text", "has", "(ILFiveTouch$Asked;)Z"⟩ : MethodName), prog_21_method_2_code, 4, (some (.boolean) : Option FieldType), []) := rfl
theorem mk64 : as_mok ⟨"FiveTouch$Text", "has", "(ILFiveTouch$Asked;)Z"⟩ 2 4 := ⟨⟨by decide, by decide, by decide +kernel⟩, by decide⟩
abbrev dr65 : as_D := ((⟨"FiveTouch$Scene", "<init>", "(LFiveTouch;)V"⟩ : MethodName), prog_16_method_1_code, 2, (none : Option FieldType), [])
theorem yk65 : as_Y0 65 = some ((⟨"FiveTouch$Scene", "<init>", "(LFiveTouch;)V"⟩ : MethodName), prog_16_method_1_code, 2, (none : Option FieldType), []) := rfl
theorem mk65 : as_mok ⟨"FiveTouch$Scene", "<init>", "(LFiveTouch;)V"⟩ 1 2 := ⟨⟨by decide, by decide, by decide +kernel⟩, by decide⟩
abbrev dr66 : as_D := ((⟨"FiveTouch$Scene", "make", "()LFiveTouch$Scene;"⟩ : MethodName), prog_16_method_2_code, 4, (some (.object "FiveTouch$Scene") : Option FieldType), [])
theorem yk66 : as_Y0 66 = some ((⟨"FiveTouch$Scene", "make", "()LFiveTouch$Scene;"⟩ : MethodName), prog_16_method_2_code, 4, (some (.object "FiveTouch$Scene") : Option FieldType), []) := rfl
theorem mk66 : as_mok ⟨"FiveTouch$Scene", "make", "()LFiveTouch$Scene;"⟩ 0 4 := ⟨⟨by decide, by decide, by decide +kernel⟩, by decide⟩
abbrev dr67 : as_D := ((⟨"FiveTouch$Scene", "ask", "(ILFiveTouch$Stone;)V"⟩ : MethodName), prog_16_method_3_code, 4, (none : Option FieldType), [])
theorem yk67 : as_Y0 67 = some ((⟨"FiveTouch$Scene", "ask", "(ILFiveTouch$Stone;)V"⟩ : MethodName), prog_16_method_3_code, 4, (none : Option FieldType), []) := rfl
theorem mk67 : as_mok ⟨"FiveTouch$Scene", "ask", "(ILFiveTouch$Stone;)V"⟩ 2 4 := ⟨⟨by decide, by decide, by decide +kernel⟩, by decide⟩
abbrev dr68 : as_D := ((⟨"FiveTouch$Scene", "touches", "(II)I"⟩ : MethodName), prog_16_method_4_code, 3, (some (.int) : Option FieldType), [])
theorem yk68 : as_Y0 68 = some ((⟨"FiveTouch$Scene", "touches", "(II)I"⟩ : MethodName), prog_16_method_4_code, 3, (some (.int) : Option FieldType), []) := rfl
theorem mk68 : as_mok ⟨"FiveTouch$Scene", "touches", "(II)I"⟩ 2 3 := ⟨⟨by decide, by decide, by decide +kernel⟩, by decide⟩
abbrev dr69 : as_D := ((⟨"FiveTouch$Scene", "weak", "(I)I"⟩ : MethodName), prog_16_method_6_code, 4, (some (.int) : Option FieldType), [])
theorem yk69 : as_Y0 69 = some ((⟨"FiveTouch$Scene", "weak", "(I)I"⟩ : MethodName), prog_16_method_6_code, 4, (some (.int) : Option FieldType), []) := rfl
theorem mk69 : as_mok ⟨"FiveTouch$Scene", "weak", "(I)I"⟩ 1 4 := ⟨⟨by decide, by decide, by decide +kernel⟩, by decide⟩
abbrev dr70 : as_D := ((⟨"FiveTouch$Scene", "stands", "(II)Z"⟩ : MethodName), prog_16_method_5_code, 3, (some (.boolean) : Option FieldType), [])
theorem yk70 : as_Y0 70 = some ((⟨"FiveTouch$Scene", "stands", "(II)Z"⟩ : MethodName), prog_16_method_5_code, 3, (some (.boolean) : Option FieldType), []) := rfl
theorem mk70 : as_mok ⟨"FiveTouch$Scene", "stands", "(II)Z"⟩ 2 3 := ⟨⟨by decide, by decide, by decide +kernel⟩, by decide⟩
abbrev dr71 : as_D := ((⟨"FiveTouch$Scene", "fall", "(I)I"⟩ : MethodName), prog_16_method_8_code, 4, (some (.int) : Option FieldType), [])
theorem yk71 : as_Y0 71 = some ((⟨"FiveTouch$Scene", "fall", "(I)I"⟩ : MethodName), prog_16_method_8_code, 4, (some (.int) : Option FieldType), []) := rfl
theorem mk71 : as_mok ⟨"FiveTouch$Scene", "fall", "(I)I"⟩ 1 4 := ⟨⟨by decide, by decide, by decide +kernel⟩, by decide⟩
abbrev dr72 : as_D := ((⟨"FiveTouch$Scene", "isLawful", "(I)Z"⟩ : MethodName), prog_16_method_7_code, 2, (some (.boolean) : Option FieldType), [])
theorem yk72 : as_Y0 72 = some ((⟨"FiveTouch$Scene", "isLawful", "(I)Z"⟩ : MethodName), prog_16_method_7_code, 2, (some (.boolean) : Option FieldType), []) := rfl
theorem mk72 : as_mok ⟨"FiveTouch$Scene", "isLawful", "(I)Z"⟩ 1 2 := ⟨⟨by decide, by decide, by decide +kernel⟩, by decide⟩
abbrev dr73 : as_D := ((⟨"FiveTouchModel", "<init>", "()V"⟩ : MethodName), prog_25_method_6_code, 1, (none : Option FieldType), [])
theorem yk73 : as_Y0 73 = some ((⟨"FiveTouchModel", "<init>", "()V"⟩ : MethodName), prog_25_method_6_code, 1, (none : Option FieldType), []) := rfl
theorem mk73 : as_mok ⟨"FiveTouchModel", "<init>", "()V"⟩ 0 1 := ⟨⟨by decide, by decide, by decide +kernel⟩, by decide⟩
abbrev dr74 : as_D := ((⟨"FiveTouchModel", "image", "(I)I"⟩ : MethodName), prog_25_method_7_code, 3, (some (.int) : Option FieldType), [])
theorem yk74 : as_Y0 74 = some ((⟨"FiveTouchModel", "image", "(I)I"⟩ : MethodName), prog_25_method_7_code, 3, (some (.int) : Option FieldType), []) := rfl
theorem mk74 : as_mok ⟨"FiveTouchModel", "image", "(I)I"⟩ 1 3 := ⟨⟨by decide, by decide, by decide +kernel⟩, by decide⟩
abbrev dr75 : as_D := ((⟨"FiveTouchModel", "lies", "(III)Z"⟩ : MethodName), prog_25_method_1_code, 3, (some (.boolean) : Option FieldType), [])
theorem yk75 : as_Y0 75 = some ((⟨"FiveTouchModel", "lies", "(III)Z"⟩ : MethodName), prog_25_method_1_code, 3, (some (.boolean) : Option FieldType), []) := rfl
theorem mk75 : as_mok ⟨"FiveTouchModel", "lies", "(III)Z"⟩ 3 3 := ⟨⟨by decide, by decide, by decide +kernel⟩, by decide⟩
abbrev dr76 : as_D := ((⟨"FiveTouchModel", "refuses", "(I)I"⟩ : MethodName), prog_25_method_2_code, 2, (some (.int) : Option FieldType), [])
theorem yk76 : as_Y0 76 = some ((⟨"FiveTouchModel", "refuses", "(I)I"⟩ : MethodName), prog_25_method_2_code, 2, (some (.int) : Option FieldType), []) := rfl
theorem mk76 : as_mok ⟨"FiveTouchModel", "refuses", "(I)I"⟩ 1 2 := ⟨⟨by decide, by decide, by decide +kernel⟩, by decide⟩
abbrev dr77 : as_D := ((⟨"FiveTouchModel", "good", "(I)I"⟩ : MethodName), prog_25_method_3_code, 2, (some (.int) : Option FieldType), [])
theorem yk77 : as_Y0 77 = some ((⟨"FiveTouchModel", "good", "(I)I"⟩ : MethodName), prog_25_method_3_code, 2, (some (.int) : Option FieldType), []) := rfl
theorem mk77 : as_mok ⟨"FiveTouchModel", "good", "(I)I"⟩ 1 2 := ⟨⟨by decide, by decide, by decide +kernel⟩, by decide⟩
abbrev dr78 : as_D := ((⟨"FiveTouchModel", "back", "(I)I"⟩ : MethodName), prog_25_method_8_code, 3, (some (.int) : Option FieldType), [])
theorem yk78 : as_Y0 78 = some ((⟨"FiveTouchModel", "back", "(I)I"⟩ : MethodName), prog_25_method_8_code, 3, (some (.int) : Option FieldType), []) := rfl
theorem mk78 : as_mok ⟨"FiveTouchModel", "back", "(I)I"⟩ 1 3 := ⟨⟨by decide, by decide, by decide +kernel⟩, by decide⟩
abbrev dr79 : as_D := ((⟨"FiveTouchModel", "stone", "(IIIII)I"⟩ : MethodName), prog_25_method_19_code, 6, (some (.int) : Option FieldType), [])
theorem yk79 : as_Y0 79 = some ((⟨"FiveTouchModel", "stone", "(IIIII)I"⟩ : MethodName), prog_25_method_19_code, 6, (some (.int) : Option FieldType), []) := rfl
theorem mk79 : as_mok ⟨"FiveTouchModel", "stone", "(IIIII)I"⟩ 5 6 := ⟨⟨by decide, by decide, by decide +kernel⟩, by decide⟩
abbrev dr80 : as_D := ((⟨"FiveTouchModel", "canBe", "(IIIII)Z"⟩ : MethodName), prog_25_method_15_code, 5, (some (.boolean) : Option FieldType), [])
theorem yk80 : as_Y0 80 = some ((⟨"FiveTouchModel", "canBe", "(IIIII)Z"⟩ : MethodName), prog_25_method_15_code, 5, (some (.boolean) : Option FieldType), []) := rfl
theorem mk80 : as_mok ⟨"FiveTouchModel", "canBe", "(IIIII)Z"⟩ 5 5 := ⟨⟨by decide, by decide, by decide +kernel⟩, by decide⟩
abbrev dr81 : as_D := ((⟨"FiveTouchModel", "isFree", "(IIII)Z"⟩ : MethodName), prog_25_method_16_code, 7, (some (.boolean) : Option FieldType), [])
theorem yk81 : as_Y0 81 = some ((⟨"FiveTouchModel", "isFree", "(IIII)Z"⟩ : MethodName), prog_25_method_16_code, 7, (some (.boolean) : Option FieldType), []) := rfl
theorem mk81 : as_mok ⟨"FiveTouchModel", "isFree", "(IIII)Z"⟩ 4 7 := ⟨⟨by decide, by decide, by decide +kernel⟩, by decide⟩
abbrev dr82 : as_D := ((⟨"FiveTouchModel", "isItem", "(I)Z"⟩ : MethodName), prog_25_method_13_code, 2, (some (.boolean) : Option FieldType), [])
theorem yk82 : as_Y0 82 = some ((⟨"FiveTouchModel", "isItem", "(I)Z"⟩ : MethodName), prog_25_method_13_code, 2, (some (.boolean) : Option FieldType), []) := rfl
theorem mk82 : as_mok ⟨"FiveTouchModel", "isItem", "(I)Z"⟩ 1 2 := ⟨⟨by decide, by decide, by decide +kernel⟩, by decide⟩
abbrev dr83 : as_D := ((⟨"FiveTouchModel", "isStone", "(I)Z"⟩ : MethodName), prog_25_method_11_code, 2, (some (.boolean) : Option FieldType), [])
theorem yk83 : as_Y0 83 = some ((⟨"FiveTouchModel", "isStone", "(I)Z"⟩ : MethodName), prog_25_method_11_code, 2, (some (.boolean) : Option FieldType), []) := rfl
theorem mk83 : as_mok ⟨"FiveTouchModel", "isStone", "(I)Z"⟩ 1 2 := ⟨⟨by decide, by decide, by decide +kernel⟩, by decide⟩
abbrev dr84 : as_D := ((⟨"FiveTouchModel", "stones", "()I"⟩ : MethodName), prog_25_method_9_code, 1, (some (.int) : Option FieldType), [])
theorem yk84 : as_Y0 84 = some ((⟨"FiveTouchModel", "stones", "()I"⟩ : MethodName), prog_25_method_9_code, 1, (some (.int) : Option FieldType), []) := rfl
theorem mk84 : as_mok ⟨"FiveTouchModel", "stones", "()I"⟩ 0 1 := ⟨⟨by decide, by decide, by decide +kernel⟩, by decide⟩
abbrev dr85 : as_D := ((⟨"FiveTouchModel", "spares", "()I"⟩ : MethodName), prog_25_method_10_code, 1, (some (.int) : Option FieldType), [])
theorem yk85 : as_Y0 85 = some ((⟨"FiveTouchModel", "spares", "()I"⟩ : MethodName), prog_25_method_10_code, 1, (some (.int) : Option FieldType), []) := rfl
theorem mk85 : as_mok ⟨"FiveTouchModel", "spares", "()I"⟩ 0 1 := ⟨⟨by decide, by decide, by decide +kernel⟩, by decide⟩
abbrev dr86 : as_D := ((⟨"FiveTouchModel", "covers", "(III)Z"⟩ : MethodName), prog_25_method_14_code, 4, (some (.boolean) : Option FieldType), [])
theorem yk86 : as_Y0 86 = some ((⟨"FiveTouchModel", "covers", "(III)Z"⟩ : MethodName), prog_25_method_14_code, 4, (some (.boolean) : Option FieldType), []) := rfl
theorem mk86 : as_mok ⟨"FiveTouchModel", "covers", "(III)Z"⟩ 3 4 := ⟨⟨by decide, by decide, by decide +kernel⟩, by decide⟩
abbrev dr87 : as_D := ((⟨"FiveTouchModel", "factOf", "(II)I"⟩ : MethodName), prog_25_method_12_code, 3, (some (.int) : Option FieldType), [])
theorem yk87 : as_Y0 87 = some ((⟨"FiveTouchModel", "factOf", "(II)I"⟩ : MethodName), prog_25_method_12_code, 3, (some (.int) : Option FieldType), []) := rfl
theorem mk87 : as_mok ⟨"FiveTouchModel", "factOf", "(II)I"⟩ 2 3 := ⟨⟨by decide, by decide, by decide +kernel⟩, by decide⟩
abbrev dr88 : as_D := ((⟨"FiveTouchModel", "adds", "(IIIII)I"⟩ : MethodName), prog_25_method_18_code, 7, (some (.int) : Option FieldType), [])
theorem yk88 : as_Y0 88 = some ((⟨"FiveTouchModel", "adds", "(IIIII)I"⟩ : MethodName), prog_25_method_18_code, 7, (some (.int) : Option FieldType), []) := rfl
theorem mk88 : as_mok ⟨"FiveTouchModel", "adds", "(IIIII)I"⟩ 5 7 := ⟨⟨by decide, by decide, by decide +kernel⟩, by decide⟩
abbrev dr89 : as_D := ((⟨"FiveTouchModel", "lays", "(IIIIII)V"⟩ : MethodName), prog_25_method_17_code, 8, (none : Option FieldType), [])
theorem yk89 : as_Y0 89 = some ((⟨"FiveTouchModel", "lays", "(IIIIII)V"⟩ : MethodName), prog_25_method_17_code, 8, (none : Option FieldType), []) := rfl
theorem mk89 : as_mok ⟨"FiveTouchModel", "lays", "(IIIIII)V"⟩ 6 8 := ⟨⟨by decide, by decide, by decide +kernel⟩, by decide⟩
abbrev dr90 : as_D := ((⟨"FiveTouchModel", "spare", "(IIIII)I"⟩ : MethodName), prog_25_method_20_code, 7, (some (.int) : Option FieldType), [])
theorem yk90 : as_Y0 90 = some ((⟨"FiveTouchModel", "spare", "(IIIII)I"⟩ : MethodName), prog_25_method_20_code, 7, (some (.int) : Option FieldType), []) := rfl
theorem mk90 : as_mok ⟨"FiveTouchModel", "spare", "(IIIII)I"⟩ 5 7 := ⟨⟨by decide, by decide, by decide +kernel⟩, by decide⟩
abbrev dr91 : as_D := ((⟨"FiveTouchModel", "put", "(III)I"⟩ : MethodName), prog_25_method_21_code, 5, (some (.int) : Option FieldType), [])
theorem yk91 : as_Y0 91 = some ((⟨"FiveTouchModel", "put", "(III)I"⟩ : MethodName), prog_25_method_21_code, 5, (some (.int) : Option FieldType), []) := rfl
theorem mk91 : as_mok ⟨"FiveTouchModel", "put", "(III)I"⟩ 3 5 := ⟨⟨by decide, by decide, by decide +kernel⟩, by decide⟩
abbrev dr92 : as_D := ((⟨"FiveTouchModel", "of", "(II)I"⟩ : MethodName), prog_25_method_22_code, 3, (some (.int) : Option FieldType), [])
theorem yk92 : as_Y0 92 = some ((⟨"FiveTouchModel", "of", "(II)I"⟩ : MethodName), prog_25_method_22_code, 3, (some (.int) : Option FieldType), []) := rfl
theorem mk92 : as_mok ⟨"FiveTouchModel", "of", "(II)I"⟩ 2 3 := ⟨⟨by decide, by decide, by decide +kernel⟩, by decide⟩
abbrev dr93 : as_D := ((⟨"FiveTouchModel", "terms", "(II)I"⟩ : MethodName), prog_25_method_23_code, 4, (some (.int) : Option FieldType), [])
theorem yk93 : as_Y0 93 = some ((⟨"FiveTouchModel", "terms", "(II)I"⟩ : MethodName), prog_25_method_23_code, 4, (some (.int) : Option FieldType), []) := rfl
theorem mk93 : as_mok ⟨"FiveTouchModel", "terms", "(II)I"⟩ 2 4 := ⟨⟨by decide, by decide, by decide +kernel⟩, by decide⟩
abbrev dr94 : as_D := ((⟨"FiveTouchModel", "row", "()I"⟩ : MethodName), prog_25_method_24_code, 5, (some (.int) : Option FieldType), [])
theorem yk94 : as_Y0 94 = some ((⟨"FiveTouchModel", "row", "()I"⟩ : MethodName), prog_25_method_24_code, 5, (some (.int) : Option FieldType), []) := rfl
theorem mk94 : as_mok ⟨"FiveTouchModel", "row", "()I"⟩ 0 5 := ⟨⟨by decide, by decide, by decide +kernel⟩, by decide⟩
abbrev dr95 : as_D := ((⟨"FiveTouchModel", "rubble", "()I"⟩ : MethodName), prog_25_method_25_code, 1, (some (.int) : Option FieldType), [])
theorem yk95 : as_Y0 95 = some ((⟨"FiveTouchModel", "rubble", "()I"⟩ : MethodName), prog_25_method_25_code, 1, (some (.int) : Option FieldType), []) := rfl
theorem mk95 : as_mok ⟨"FiveTouchModel", "rubble", "()I"⟩ 0 1 := ⟨⟨by decide, by decide, by decide +kernel⟩, by decide⟩
abbrev dr96 : as_D := ((⟨"FiveTouchModel", "feed", "(IIIII)I"⟩ : MethodName), prog_25_method_26_code, 7, (some (.int) : Option FieldType), [])
theorem yk96 : as_Y0 96 = some ((⟨"FiveTouchModel", "feed", "(IIIII)I"⟩ : MethodName), prog_25_method_26_code, 7, (some (.int) : Option FieldType), []) := rfl
theorem mk96 : as_mok ⟨"FiveTouchModel", "feed", "(IIIII)I"⟩ 5 7 := ⟨⟨by decide, by decide, by decide +kernel⟩, by decide⟩
abbrev dr97 : as_D := ((⟨"FiveTouchModel", "end", "(I)I"⟩ : MethodName), prog_25_method_27_code, 2, (some (.int) : Option FieldType), [])
theorem yk97 : as_Y0 97 = some ((⟨"FiveTouchModel", "end", "(I)I"⟩ : MethodName), prog_25_method_27_code, 2, (some (.int) : Option FieldType), []) := rfl
theorem mk97 : as_mok ⟨"FiveTouchModel", "end", "(I)I"⟩ 1 2 := ⟨⟨by decide, by decide, by decide +kernel⟩, by decide⟩
abbrev dr98 : as_D := ((⟨"FiveTouchModel", "law", "()I"⟩ : MethodName), prog_25_method_46_code, 3, (some (.int) : Option FieldType), [])
theorem yk98 : as_Y0 98 = some ((⟨"FiveTouchModel", "law", "()I"⟩ : MethodName), prog_25_method_46_code, 3, (some (.int) : Option FieldType), []) := rfl
theorem mk98 : as_mok ⟨"FiveTouchModel", "law", "()I"⟩ 0 3 := ⟨⟨by decide, by decide, by decide +kernel⟩, by decide⟩
abbrev dr99 : as_D := ((⟨"FiveTouchModel", "reads", "()Z"⟩ : MethodName), prog_25_method_45_code, 2, (some (.boolean) : Option FieldType), [])
theorem yk99 : as_Y0 99 = some ((⟨"FiveTouchModel", "reads", "()Z"⟩ : MethodName), prog_25_method_45_code, 2, (some (.boolean) : Option FieldType), []) := rfl
theorem mk99 : as_mok ⟨"FiveTouchModel", "reads", "()Z"⟩ 0 2 := ⟨⟨by decide, by decide, by decide +kernel⟩, by decide⟩
abbrev dr100 : as_D := ((⟨"FiveTouchModel", "splits", "(I)V"⟩ : MethodName), prog_25_method_31_code, 6, (none : Option FieldType), [])
theorem yk100 : as_Y0 100 = some ((⟨"FiveTouchModel", "splits", "(I)V"⟩ : MethodName), prog_25_method_31_code, 6, (none : Option FieldType), []) := rfl
theorem mk100 : as_mok ⟨"FiveTouchModel", "splits", "(I)V"⟩ 1 6 := ⟨⟨by decide, by decide, by decide +kernel⟩, by decide⟩
abbrev dr101 : as_D := ((⟨"FiveTouchModel", "isSmall", "(I)Z"⟩ : MethodName), prog_25_method_28_code, 1, (some (.boolean) : Option FieldType), [])
theorem yk101 : as_Y0 101 = some ((⟨"FiveTouchModel", "isSmall", "(I)Z"⟩ : MethodName), prog_25_method_28_code, 1, (some (.boolean) : Option FieldType), []) := rfl
theorem mk101 : as_mok ⟨"FiveTouchModel", "isSmall", "(I)Z"⟩ 1 1 := ⟨⟨by decide, by decide, by decide +kernel⟩, by decide⟩
abbrev dr102 : as_D := ((⟨"FiveTouchModel", "isDigit", "(I)Z"⟩ : MethodName), prog_25_method_29_code, 1, (some (.boolean) : Option FieldType), [])
theorem yk102 : as_Y0 102 = some ((⟨"FiveTouchModel", "isDigit", "(I)Z"⟩ : MethodName), prog_25_method_29_code, 1, (some (.boolean) : Option FieldType), []) := rfl
theorem mk102 : as_mok ⟨"FiveTouchModel", "isDigit", "(I)Z"⟩ 1 1 := ⟨⟨by decide, by decide, by decide +kernel⟩, by decide⟩
abbrev dr103 : as_D := ((⟨"FiveTouchModel", "wordOf", "(II)I"⟩ : MethodName), prog_25_method_30_code, 8, (some (.int) : Option FieldType), [])
theorem yk103 : as_Y0 103 = some ((⟨"FiveTouchModel", "wordOf", "(II)I"⟩ : MethodName), prog_25_method_30_code, 8, (some (.int) : Option FieldType), []) := rfl
theorem mk103 : as_mok ⟨"FiveTouchModel", "wordOf", "(II)I"⟩ 2 8 := ⟨⟨by decide, by decide, by decide +kernel⟩, by decide⟩
abbrev dr104 : as_D := ((⟨"FiveTouchModel", "readClause", "()V"⟩ : MethodName), prog_25_method_38_code, 1, (none : Option FieldType), [])
theorem yk104 : as_Y0 104 = some ((⟨"FiveTouchModel", "readClause", "()V"⟩ : MethodName), prog_25_method_38_code, 1, (none : Option FieldType), []) := rfl
theorem mk104 : as_mok ⟨"FiveTouchModel", "readClause", "()V"⟩ 0 1 := ⟨⟨by decide, by decide, by decide +kernel⟩, by decide⟩
abbrev dr105 : as_D := ((⟨"FiveTouchModel", "takes0", "(I)Z"⟩ : MethodName), prog_25_method_34_code, 3, (some (.boolean) : Option FieldType), [])
theorem yk105 : as_Y0 105 = some ((⟨"FiveTouchModel", "takes0", "(I)Z"⟩ : MethodName), prog_25_method_34_code, 3, (some (.boolean) : Option FieldType), []) := rfl
theorem mk105 : as_mok ⟨"FiveTouchModel", "takes0", "(I)Z"⟩ 1 3 := ⟨⟨by decide, by decide, by decide +kernel⟩, by decide⟩
abbrev dr106 : as_D := ((⟨"FiveTouchModel", "fine", "()Z"⟩ : MethodName), prog_25_method_32_code, 1, (some (.boolean) : Option FieldType), [])
theorem yk106 : as_Y0 106 = some ((⟨"FiveTouchModel", "fine", "()Z"⟩ : MethodName), prog_25_method_32_code, 1, (some (.boolean) : Option FieldType), []) := rfl
theorem mk106 : as_mok ⟨"FiveTouchModel", "fine", "()Z"⟩ 0 1 := ⟨⟨by decide, by decide, by decide +kernel⟩, by decide⟩
abbrev dr107 : as_D := ((⟨"FiveTouchModel", "readSum", "(I)V"⟩ : MethodName), prog_25_method_42_code, 2, (none : Option FieldType), [])
theorem yk107 : as_Y0 107 = some ((⟨"FiveTouchModel", "readSum", "(I)V"⟩ : MethodName), prog_25_method_42_code, 2, (none : Option FieldType), []) := rfl
theorem mk107 : as_mok ⟨"FiveTouchModel", "readSum", "(I)V"⟩ 1 2 := ⟨⟨by decide, by decide, by decide +kernel⟩, by decide⟩
abbrev dr108 : as_D := ((⟨"FiveTouchModel", "readTerm", "(I)V"⟩ : MethodName), prog_25_method_43_code, 2, (none : Option FieldType), [])
theorem yk108 : as_Y0 108 = some ((⟨"FiveTouchModel", "readTerm", "(I)V"⟩ : MethodName), prog_25_method_43_code, 2, (none : Option FieldType), []) := rfl
theorem mk108 : as_mok ⟨"FiveTouchModel", "readTerm", "(I)V"⟩ 1 2 := ⟨⟨by decide, by decide, by decide +kernel⟩, by decide⟩
abbrev dr109 : as_D := ((⟨"FiveTouchModel", "readPart", "(I)V"⟩ : MethodName), prog_25_method_44_code, 3, (none : Option FieldType), [])
theorem yk109 : as_Y0 109 = some ((⟨"FiveTouchModel", "readPart", "(I)V"⟩ : MethodName), prog_25_method_44_code, 3, (none : Option FieldType), []) := rfl
theorem mk109 : as_mok ⟨"FiveTouchModel", "readPart", "(I)V"⟩ 1 3 := ⟨⟨by decide, by decide, by decide +kernel⟩, by decide⟩
abbrev dr110 : as_D := ((⟨"FiveTouchModel", "sign", "(C)I"⟩ : MethodName), prog_25_method_37_code, 1, (some (.int) : Option FieldType), [])
theorem yk110 : as_Y0 110 = some ((⟨"FiveTouchModel", "sign", "(C)I"⟩ : MethodName), prog_25_method_37_code, 1, (some (.int) : Option FieldType), []) := rfl
theorem mk110 : as_mok ⟨"FiveTouchModel", "sign", "(C)I"⟩ 1 1 := ⟨⟨by decide, by decide, by decide +kernel⟩, by decide⟩
abbrev dr111 : as_D := ((⟨"FiveTouchModel", "faults", "()V"⟩ : MethodName), prog_25_method_33_code, 1, (none : Option FieldType), [])
theorem yk111 : as_Y0 111 = some ((⟨"FiveTouchModel", "faults", "()V"⟩ : MethodName), prog_25_method_33_code, 1, (none : Option FieldType), []) := rfl
theorem mk111 : as_mok ⟨"FiveTouchModel", "faults", "()V"⟩ 0 1 := ⟨⟨by decide, by decide, by decide +kernel⟩, by decide⟩
abbrev dr112 : as_D := ((⟨"FiveTouchModel", "must", "(I)V"⟩ : MethodName), prog_25_method_35_code, 2, (none : Option FieldType), [])
theorem yk112 : as_Y0 112 = some ((⟨"FiveTouchModel", "must", "(I)V"⟩ : MethodName), prog_25_method_35_code, 2, (none : Option FieldType), []) := rfl
theorem mk112 : as_mok ⟨"FiveTouchModel", "must", "(I)V"⟩ 1 2 := ⟨⟨by decide, by decide, by decide +kernel⟩, by decide⟩
abbrev dr113 : as_D := ((⟨"FiveTouchModel", "leaf", "()V"⟩ : MethodName), prog_25_method_36_code, 1, (none : Option FieldType), [])
theorem yk113 : as_Y0 113 = some ((⟨"FiveTouchModel", "leaf", "()V"⟩ : MethodName), prog_25_method_36_code, 1, (none : Option FieldType), []) := rfl
theorem mk113 : as_mok ⟨"FiveTouchModel", "leaf", "()V"⟩ 0 1 := ⟨⟨by decide, by decide, by decide +kernel⟩, by decide⟩
abbrev dr114 : as_D := ((⟨"FiveTouchModel", "readTest", "(I)V"⟩ : MethodName), prog_25_method_39_code, 2, (none : Option FieldType), [])
theorem yk114 : as_Y0 114 = some ((⟨"FiveTouchModel", "readTest", "(I)V"⟩ : MethodName), prog_25_method_39_code, 2, (none : Option FieldType), []) := rfl
theorem mk114 : as_mok ⟨"FiveTouchModel", "readTest", "(I)V"⟩ 1 2 := ⟨⟨by decide, by decide, by decide +kernel⟩, by decide⟩
abbrev dr115 : as_D := ((⟨"FiveTouchModel", "readBoth", "(I)V"⟩ : MethodName), prog_25_method_40_code, 2, (none : Option FieldType), [])
theorem yk115 : as_Y0 115 = some ((⟨"FiveTouchModel", "readBoth", "(I)V"⟩ : MethodName), prog_25_method_40_code, 2, (none : Option FieldType), []) := rfl
theorem mk115 : as_mok ⟨"FiveTouchModel", "readBoth", "(I)V"⟩ 1 2 := ⟨⟨by decide, by decide, by decide +kernel⟩, by decide⟩
abbrev dr116 : as_D := ((⟨"FiveTouchModel", "readPlain", "(I)V"⟩ : MethodName), prog_25_method_41_code, 4, (none : Option FieldType), [])
theorem yk116 : as_Y0 116 = some ((⟨"FiveTouchModel", "readPlain", "(I)V"⟩ : MethodName), prog_25_method_41_code, 4, (none : Option FieldType), []) := rfl
theorem mk116 : as_mok ⟨"FiveTouchModel", "readPlain", "(I)V"⟩ 1 4 := ⟨⟨by decide, by decide, by decide +kernel⟩, by decide⟩
abbrev dr117 : as_D := ((⟨"FiveTouchModel", "fault", "()I"⟩ : MethodName), prog_25_method_47_code, 1, (some (.int) : Option FieldType), [])
theorem yk117 : as_Y0 117 = some ((⟨"FiveTouchModel", "fault", "()I"⟩ : MethodName), prog_25_method_47_code, 1, (some (.int) : Option FieldType), []) := rfl
theorem mk117 : as_mok ⟨"FiveTouchModel", "fault", "()I"⟩ 0 1 := ⟨⟨by decide, by decide, by decide +kernel⟩, by decide⟩
abbrev dr118 : as_D := ((⟨"FiveTouchModel", "force", "(I)I"⟩ : MethodName), prog_25_method_48_code, 3, (some (.int) : Option FieldType), [])
theorem yk118 : as_Y0 118 = some ((⟨"FiveTouchModel", "force", "(I)I"⟩ : MethodName), prog_25_method_48_code, 3, (some (.int) : Option FieldType), []) := rfl
theorem mk118 : as_mok ⟨"FiveTouchModel", "force", "(I)I"⟩ 1 3 := ⟨⟨by decide, by decide, by decide +kernel⟩, by decide⟩
abbrev dr119 : as_D := ((⟨"FiveTouchModel", "at", "(II)I"⟩ : MethodName), prog_25_method_65_code, 4, (some (.int) : Option FieldType), [])
theorem yk119 : as_Y0 119 = some ((⟨"FiveTouchModel", "at", "(II)I"⟩ : MethodName), prog_25_method_65_code, 4, (some (.int) : Option FieldType), []) := rfl
theorem mk119 : as_mok ⟨"FiveTouchModel", "at", "(II)I"⟩ 2 4 := ⟨⟨by decide, by decide, by decide +kernel⟩, by decide⟩
abbrev dr120 : as_D := ((⟨"FiveTouchModel", "isIn", "(II)Z"⟩ : MethodName), prog_25_method_4_code, 2, (some (.boolean) : Option FieldType), [])
theorem yk120 : as_Y0 120 = some ((⟨"FiveTouchModel", "isIn", "(II)Z"⟩ : MethodName), prog_25_method_4_code, 2, (some (.boolean) : Option FieldType), []) := rfl
theorem mk120 : as_mok ⟨"FiveTouchModel", "isIn", "(II)Z"⟩ 2 2 := ⟨⟨by decide, by decide, by decide +kernel⟩, by decide⟩
abbrev dr121 : as_D := ((⟨"FiveTouchModel", "touches", "(II)I"⟩ : MethodName), prog_25_method_66_code, 4, (some (.int) : Option FieldType), [])
theorem yk121 : as_Y0 121 = some ((⟨"FiveTouchModel", "touches", "(II)I"⟩ : MethodName), prog_25_method_66_code, 4, (some (.int) : Option FieldType), []) := rfl
theorem mk121 : as_mok ⟨"FiveTouchModel", "touches", "(II)I"⟩ 2 4 := ⟨⟨by decide, by decide, by decide +kernel⟩, by decide⟩
abbrev dr122 : as_D := ((⟨"FiveTouchModel", "looks", "()V"⟩ : MethodName), prog_25_method_61_code, 3, (none : Option FieldType), [])
theorem yk122 : as_Y0 122 = some ((⟨"FiveTouchModel", "looks", "()V"⟩ : MethodName), prog_25_method_61_code, 3, (none : Option FieldType), []) := rfl
theorem mk122 : as_mok ⟨"FiveTouchModel", "looks", "()V"⟩ 0 3 := ⟨⟨by decide, by decide, by decide +kernel⟩, by decide⟩
abbrev dr123 : as_D := ((⟨"FiveTouchModel", "asksOf", "(I)V"⟩ : MethodName), prog_25_method_59_code, 7, (none : Option FieldType), [])
theorem yk123 : as_Y0 123 = some ((⟨"FiveTouchModel", "asksOf", "(I)V"⟩ : MethodName), prog_25_method_59_code, 7, (none : Option FieldType), []) := rfl
theorem mk123 : as_mok ⟨"FiveTouchModel", "asksOf", "(I)V"⟩ 1 7 := ⟨⟨by decide, by decide, by decide +kernel⟩, by decide⟩
abbrev dr124 : as_D := ((⟨"FiveTouchModel", "codeAt", "(I)I"⟩ : MethodName), prog_25_method_49_code, 2, (some (.int) : Option FieldType), [])
theorem yk124 : as_Y0 124 = some ((⟨"FiveTouchModel", "codeAt", "(I)I"⟩ : MethodName), prog_25_method_49_code, 2, (some (.int) : Option FieldType), []) := rfl
theorem mk124 : as_mok ⟨"FiveTouchModel", "codeAt", "(I)I"⟩ 1 2 := ⟨⟨by decide, by decide, by decide +kernel⟩, by decide⟩
abbrev dr125 : as_D := ((⟨"FiveTouchModel", "sumOf", "(Z)J"⟩ : MethodName), prog_25_method_52_code, 7, (some (.long) : Option FieldType), [])
theorem yk125 : as_Y0 125 = some ((⟨"FiveTouchModel", "sumOf", "(Z)J"⟩ : MethodName), prog_25_method_52_code, 7, (some (.long) : Option FieldType), []) := rfl
theorem mk125 : as_mok ⟨"FiveTouchModel", "sumOf", "(Z)J"⟩ 1 7 := ⟨⟨by decide, by decide, by decide +kernel⟩, by decide⟩
abbrev dr126 : as_D := ((⟨"FiveTouchModel", "termOf", "(Z)J"⟩ : MethodName), prog_25_method_53_code, 7, (some (.long) : Option FieldType), [])
theorem yk126 : as_Y0 126 = some ((⟨"FiveTouchModel", "termOf", "(Z)J"⟩ : MethodName), prog_25_method_53_code, 7, (some (.long) : Option FieldType), []) := rfl
theorem mk126 : as_mok ⟨"FiveTouchModel", "termOf", "(Z)J"⟩ 1 7 := ⟨⟨by decide, by decide, by decide +kernel⟩, by decide⟩
abbrev dr127 : as_D := ((⟨"FiveTouchModel", "partOf", "(Z)J"⟩ : MethodName), prog_25_method_54_code, 4, (some (.long) : Option FieldType), [])
theorem yk127 : as_Y0 127 = some ((⟨"FiveTouchModel", "partOf", "(Z)J"⟩ : MethodName), prog_25_method_54_code, 4, (some (.long) : Option FieldType), []) := rfl
theorem mk127 : as_mok ⟨"FiveTouchModel", "partOf", "(Z)J"⟩ 1 4 := ⟨⟨by decide, by decide, by decide +kernel⟩, by decide⟩
abbrev dr128 : as_D := ((⟨"FiveTouchModel", "passes0", "(I)Z"⟩ : MethodName), prog_25_method_50_code, 3, (some (.boolean) : Option FieldType), [])
theorem yk128 : as_Y0 128 = some ((⟨"FiveTouchModel", "passes0", "(I)Z"⟩ : MethodName), prog_25_method_50_code, 3, (some (.boolean) : Option FieldType), []) := rfl
theorem mk128 : as_mok ⟨"FiveTouchModel", "passes0", "(I)Z"⟩ 1 3 := ⟨⟨by decide, by decide, by decide +kernel⟩, by decide⟩
abbrev dr129 : as_D := ((⟨"FiveTouchModel", "bounded", "(JZ)J"⟩ : MethodName), prog_25_method_51_code, 4, (some (.long) : Option FieldType), [])
theorem yk129 : as_Y0 129 = some ((⟨"FiveTouchModel", "bounded", "(JZ)J"⟩ : MethodName), prog_25_method_51_code, 4, (some (.long) : Option FieldType), []) := rfl
theorem mk129 : as_mok ⟨"FiveTouchModel", "bounded", "(JZ)J"⟩ 2 4 := ⟨⟨by decide, by decide, by decide +kernel⟩, by decide⟩
abbrev dr130 : as_D := ((⟨"FiveTouchModel", "testOf", "(Z)Z"⟩ : MethodName), prog_25_method_55_code, 4, (some (.boolean) : Option FieldType), [])
theorem yk130 : as_Y0 130 = some ((⟨"FiveTouchModel", "testOf", "(Z)Z"⟩ : MethodName), prog_25_method_55_code, 4, (some (.boolean) : Option FieldType), []) := rfl
theorem mk130 : as_mok ⟨"FiveTouchModel", "testOf", "(Z)Z"⟩ 1 4 := ⟨⟨by decide, by decide, by decide +kernel⟩, by decide⟩
abbrev dr131 : as_D := ((⟨"FiveTouchModel", "bothOf", "(Z)Z"⟩ : MethodName), prog_25_method_56_code, 4, (some (.boolean) : Option FieldType), [])
theorem yk131 : as_Y0 131 = some ((⟨"FiveTouchModel", "bothOf", "(Z)Z"⟩ : MethodName), prog_25_method_56_code, 4, (some (.boolean) : Option FieldType), []) := rfl
theorem mk131 : as_mok ⟨"FiveTouchModel", "bothOf", "(Z)Z"⟩ 1 4 := ⟨⟨by decide, by decide, by decide +kernel⟩, by decide⟩
abbrev dr132 : as_D := ((⟨"FiveTouchModel", "plainOf", "(Z)Z"⟩ : MethodName), prog_25_method_57_code, 3, (some (.boolean) : Option FieldType), [])
theorem yk132 : as_Y0 132 = some ((⟨"FiveTouchModel", "plainOf", "(Z)Z"⟩ : MethodName), prog_25_method_57_code, 3, (some (.boolean) : Option FieldType), []) := rfl
theorem mk132 : as_mok ⟨"FiveTouchModel", "plainOf", "(Z)Z"⟩ 1 3 := ⟨⟨by decide, by decide, by decide +kernel⟩, by decide⟩
abbrev dr133 : as_D := ((⟨"FiveTouchModel", "positiveOf", "(Z)Z"⟩ : MethodName), prog_25_method_58_code, 7, (some (.boolean) : Option FieldType), [])
theorem yk133 : as_Y0 133 = some ((⟨"FiveTouchModel", "positiveOf", "(Z)Z"⟩ : MethodName), prog_25_method_58_code, 7, (some (.boolean) : Option FieldType), []) := rfl
theorem mk133 : as_mok ⟨"FiveTouchModel", "positiveOf", "(Z)Z"⟩ 1 7 := ⟨⟨by decide, by decide, by decide +kernel⟩, by decide⟩
abbrev dr134 : as_D := ((⟨"FiveTouchModel", "touch", "(II)Z"⟩ : MethodName), prog_25_method_60_code, 6, (some (.boolean) : Option FieldType), [])
theorem yk134 : as_Y0 134 = some ((⟨"FiveTouchModel", "touch", "(II)Z"⟩ : MethodName), prog_25_method_60_code, 6, (some (.boolean) : Option FieldType), []) := rfl
theorem mk134 : as_mok ⟨"FiveTouchModel", "touch", "(II)Z"⟩ 2 6 := ⟨⟨by decide, by decide, by decide +kernel⟩, by decide⟩
abbrev dr135 : as_D := ((⟨"FiveTouchModel", "ones", "(I)I"⟩ : MethodName), prog_25_method_5_code, 3, (some (.int) : Option FieldType), [])
theorem yk135 : as_Y0 135 = some ((⟨"FiveTouchModel", "ones", "(I)I"⟩ : MethodName), prog_25_method_5_code, 3, (some (.int) : Option FieldType), []) := rfl
theorem mk135 : as_mok ⟨"FiveTouchModel", "ones", "(I)I"⟩ 1 3 := ⟨⟨by decide, by decide, by decide +kernel⟩, by decide⟩
abbrev dr136 : as_D := ((⟨"FiveTouchModel", "unlawful", "()I"⟩ : MethodName), prog_25_method_67_code, 3, (some (.int) : Option FieldType), [])
theorem yk136 : as_Y0 136 = some ((⟨"FiveTouchModel", "unlawful", "()I"⟩ : MethodName), prog_25_method_67_code, 3, (some (.int) : Option FieldType), []) := rfl
theorem mk136 : as_mok ⟨"FiveTouchModel", "unlawful", "()I"⟩ 0 3 := ⟨⟨by decide, by decide, by decide +kernel⟩, by decide⟩
abbrev dr137 : as_D := ((⟨"FiveTouchModel", "loose", "(I)I"⟩ : MethodName), prog_25_method_63_code, 4, (some (.int) : Option FieldType), [])
theorem yk137 : as_Y0 137 = some ((⟨"FiveTouchModel", "loose", "(I)I"⟩ : MethodName), prog_25_method_63_code, 4, (some (.int) : Option FieldType), []) := rfl
theorem mk137 : as_mok ⟨"FiveTouchModel", "loose", "(I)I"⟩ 1 4 := ⟨⟨by decide, by decide, by decide +kernel⟩, by decide⟩
abbrev dr138 : as_D := ((⟨"FiveTouchModel", "stands", "(II)Z"⟩ : MethodName), prog_25_method_62_code, 3, (some (.boolean) : Option FieldType), [])
theorem yk138 : as_Y0 138 = some ((⟨"FiveTouchModel", "stands", "(II)Z"⟩ : MethodName), prog_25_method_62_code, 3, (some (.boolean) : Option FieldType), []) := rfl
theorem mk138 : as_mok ⟨"FiveTouchModel", "stands", "(II)Z"⟩ 2 3 := ⟨⟨by decide, by decide, by decide +kernel⟩, by decide⟩
abbrev dr139 : as_D := ((⟨"FiveTouchModel", "there", "()I"⟩ : MethodName), prog_25_method_68_code, 1, (some (.int) : Option FieldType), [])
theorem yk139 : as_Y0 139 = some ((⟨"FiveTouchModel", "there", "()I"⟩ : MethodName), prog_25_method_68_code, 1, (some (.int) : Option FieldType), []) := rfl
theorem mk139 : as_mok ⟨"FiveTouchModel", "there", "()I"⟩ 0 1 := ⟨⟨by decide, by decide, by decide +kernel⟩, by decide⟩
abbrev dr140 : as_D := ((⟨"FiveTouchModel", "stand", "(I)I"⟩ : MethodName), prog_25_method_69_code, 3, (some (.int) : Option FieldType), [])
theorem yk140 : as_Y0 140 = some ((⟨"FiveTouchModel", "stand", "(I)I"⟩ : MethodName), prog_25_method_69_code, 3, (some (.int) : Option FieldType), []) := rfl
theorem mk140 : as_mok ⟨"FiveTouchModel", "stand", "(I)I"⟩ 1 3 := ⟨⟨by decide, by decide, by decide +kernel⟩, by decide⟩
abbrev dr141 : as_D := ((⟨"FiveTouchModel", "falls", "(II)I"⟩ : MethodName), prog_25_method_72_code, 6, (some (.int) : Option FieldType), [])
theorem yk141 : as_Y0 141 = some ((⟨"FiveTouchModel", "falls", "(II)I"⟩ : MethodName), prog_25_method_72_code, 6, (some (.int) : Option FieldType), []) := rfl
theorem mk141 : as_mok ⟨"FiveTouchModel", "falls", "(II)I"⟩ 2 6 := ⟨⟨by decide, by decide, by decide +kernel⟩, by decide⟩
abbrev dr142 : as_D := ((⟨"FiveTouchModel", "areThere", "(I)Z"⟩ : MethodName), prog_25_method_70_code, 2, (some (.boolean) : Option FieldType), [])
theorem yk142 : as_Y0 142 = some ((⟨"FiveTouchModel", "areThere", "(I)Z"⟩ : MethodName), prog_25_method_70_code, 2, (some (.boolean) : Option FieldType), []) := rfl
theorem mk142 : as_mok ⟨"FiveTouchModel", "areThere", "(I)Z"⟩ 1 2 := ⟨⟨by decide, by decide, by decide +kernel⟩, by decide⟩
abbrev dr143 : as_D := ((⟨"FiveTouchModel", "weightOf", "(I)I"⟩ : MethodName), prog_25_method_71_code, 4, (some (.int) : Option FieldType), [])
theorem yk143 : as_Y0 143 = some ((⟨"FiveTouchModel", "weightOf", "(I)I"⟩ : MethodName), prog_25_method_71_code, 4, (some (.int) : Option FieldType), []) := rfl
theorem mk143 : as_mok ⟨"FiveTouchModel", "weightOf", "(I)I"⟩ 1 4 := ⟨⟨by decide, by decide, by decide +kernel⟩, by decide⟩
abbrev dr144 : as_D := ((⟨"FiveTouchModel", "round", "(II)I"⟩ : MethodName), prog_25_method_73_code, 5, (some (.int) : Option FieldType), [])
theorem yk144 : as_Y0 144 = some ((⟨"FiveTouchModel", "round", "(II)I"⟩ : MethodName), prog_25_method_73_code, 5, (some (.int) : Option FieldType), []) := rfl
theorem mk144 : as_mok ⟨"FiveTouchModel", "round", "(II)I"⟩ 2 5 := ⟨⟨by decide, by decide, by decide +kernel⟩, by decide⟩
abbrev dr145 : as_D := ((⟨"FiveTouchModel", "take", "(I)I"⟩ : MethodName), prog_25_method_74_code, 3, (some (.int) : Option FieldType), [])
theorem yk145 : as_Y0 145 = some ((⟨"FiveTouchModel", "take", "(I)I"⟩ : MethodName), prog_25_method_74_code, 3, (some (.int) : Option FieldType), []) := rfl
theorem mk145 : as_mok ⟨"FiveTouchModel", "take", "(I)I"⟩ 1 3 := ⟨⟨by decide, by decide, by decide +kernel⟩, by decide⟩
abbrev dr146 : as_D := ((⟨"FiveTouchModel", "fall", "(I)I"⟩ : MethodName), prog_25_method_64_code, 3, (some (.int) : Option FieldType), [])
theorem yk146 : as_Y0 146 = some ((⟨"FiveTouchModel", "fall", "(I)I"⟩ : MethodName), prog_25_method_64_code, 3, (some (.int) : Option FieldType), []) := rfl
theorem mk146 : as_mok ⟨"FiveTouchModel", "fall", "(I)I"⟩ 1 3 := ⟨⟨by decide, by decide, by decide +kernel⟩, by decide⟩
abbrev dr147 : as_D := ((⟨"FiveTouchModel", "farm", "(II)I"⟩ : MethodName), prog_25_method_75_code, 6, (some (.int) : Option FieldType), [])
theorem yk147 : as_Y0 147 = some ((⟨"FiveTouchModel", "farm", "(II)I"⟩ : MethodName), prog_25_method_75_code, 6, (some (.int) : Option FieldType), []) := rfl
theorem mk147 : as_mok ⟨"FiveTouchModel", "farm", "(II)I"⟩ 2 6 := ⟨⟨by decide, by decide, by decide +kernel⟩, by decide⟩
abbrev dr148 : as_D := ((⟨"FiveTouchModel", "once", "(I)I"⟩ : MethodName), prog_25_method_80_code, 2, (some (.int) : Option FieldType), [])
theorem yk148 : as_Y0 148 = some ((⟨"FiveTouchModel", "once", "(I)I"⟩ : MethodName), prog_25_method_80_code, 2, (some (.int) : Option FieldType), []) := rfl
theorem mk148 : as_mok ⟨"FiveTouchModel", "once", "(I)I"⟩ 1 2 := ⟨⟨by decide, by decide, by decide +kernel⟩, by decide⟩
abbrev dr149 : as_D := ((⟨"FiveTouchModel", "takesMost", "(Z)V"⟩ : MethodName), prog_25_method_78_code, 4, (none : Option FieldType), [])
theorem yk149 : as_Y0 149 = some ((⟨"FiveTouchModel", "takesMost", "(Z)V"⟩ : MethodName), prog_25_method_78_code, 4, (none : Option FieldType), []) := rfl
theorem mk149 : as_mok ⟨"FiveTouchModel", "takesMost", "(Z)V"⟩ 1 4 := ⟨⟨by decide, by decide, by decide +kernel⟩, by decide⟩
abbrev dr150 : as_D := ((⟨"FiveTouchModel", "sets", "()V"⟩ : MethodName), prog_25_method_76_code, 5, (none : Option FieldType), [])
theorem yk150 : as_Y0 150 = some ((⟨"FiveTouchModel", "sets", "()V"⟩ : MethodName), prog_25_method_76_code, 5, (none : Option FieldType), []) := rfl
theorem mk150 : as_mok ⟨"FiveTouchModel", "sets", "()V"⟩ 0 5 := ⟨⟨by decide, by decide, by decide +kernel⟩, by decide⟩
abbrev dr151 : as_D := ((⟨"FiveTouchModel", "isBetter", "(II)Z"⟩ : MethodName), prog_25_method_77_code, 3, (some (.boolean) : Option FieldType), [])
theorem yk151 : as_Y0 151 = some ((⟨"FiveTouchModel", "isBetter", "(II)Z"⟩ : MethodName), prog_25_method_77_code, 3, (some (.boolean) : Option FieldType), []) := rfl
theorem mk151 : as_mok ⟨"FiveTouchModel", "isBetter", "(II)Z"⟩ 2 3 := ⟨⟨by decide, by decide, by decide +kernel⟩, by decide⟩
abbrev dr152 : as_D := ((⟨"FiveTouchModel", "told", "(I)I"⟩ : MethodName), prog_25_method_79_code, 2, (some (.int) : Option FieldType), [])
theorem yk152 : as_Y0 152 = some ((⟨"FiveTouchModel", "told", "(I)I"⟩ : MethodName), prog_25_method_79_code, 2, (some (.int) : Option FieldType), []) := rfl
theorem mk152 : as_mok ⟨"FiveTouchModel", "told", "(I)I"⟩ 1 2 := ⟨⟨by decide, by decide, by decide +kernel⟩, by decide⟩
abbrev dr153 : as_D := ((⟨"FiveTouchModel", "oneByOne", "(I)I"⟩ : MethodName), prog_25_method_81_code, 2, (some (.int) : Option FieldType), [])
theorem yk153 : as_Y0 153 = some ((⟨"FiveTouchModel", "oneByOne", "(I)I"⟩ : MethodName), prog_25_method_81_code, 2, (some (.int) : Option FieldType), []) := rfl
theorem mk153 : as_mok ⟨"FiveTouchModel", "oneByOne", "(I)I"⟩ 1 2 := ⟨⟨by decide, by decide, by decide +kernel⟩, by decide⟩
abbrev dr154 : as_D := ((⟨"FiveTouchModel", "order", "(I)I"⟩ : MethodName), prog_25_method_82_code, 6, (some (.int) : Option FieldType), [])
theorem yk154 : as_Y0 154 = some ((⟨"FiveTouchModel", "order", "(I)I"⟩ : MethodName), prog_25_method_82_code, 6, (some (.int) : Option FieldType), []) := rfl
theorem mk154 : as_mok ⟨"FiveTouchModel", "order", "(I)I"⟩ 1 6 := ⟨⟨by decide, by decide, by decide +kernel⟩, by decide⟩
abbrev dr155 : as_D := ((⟨"FiveTouchModel", "fell", "(I)I"⟩ : MethodName), prog_25_method_83_code, 5, (some (.int) : Option FieldType), [])
theorem yk155 : as_Y0 155 = some ((⟨"FiveTouchModel", "fell", "(I)I"⟩ : MethodName), prog_25_method_83_code, 5, (some (.int) : Option FieldType), []) := rfl
theorem mk155 : as_mok ⟨"FiveTouchModel", "fell", "(I)I"⟩ 1 5 := ⟨⟨by decide, by decide, by decide +kernel⟩, by decide⟩
abbrev dr156 : as_D := ((⟨"FiveTouchModel", "gate", "(IIIII)I"⟩ : MethodName), prog_25_method_84_code, 9, (some (.int) : Option FieldType), [])
theorem yk156 : as_Y0 156 = some ((⟨"FiveTouchModel", "gate", "(IIIII)I"⟩ : MethodName), prog_25_method_84_code, 9, (some (.int) : Option FieldType), []) := rfl
theorem mk156 : as_mok ⟨"FiveTouchModel", "gate", "(IIIII)I"⟩ 5 9 := ⟨⟨by decide, by decide, by decide +kernel⟩, by decide⟩
abbrev dr157 : as_D := ((⟨"FiveTouchModel", "mend", "(I)I"⟩ : MethodName), prog_25_method_85_code, 6, (some (.int) : Option FieldType), [])
theorem yk157 : as_Y0 157 = some ((⟨"FiveTouchModel", "mend", "(I)I"⟩ : MethodName), prog_25_method_85_code, 6, (some (.int) : Option FieldType), []) := rfl
theorem mk157 : as_mok ⟨"FiveTouchModel", "mend", "(I)I"⟩ 1 6 := ⟨⟨by decide, by decide, by decide +kernel⟩, by decide⟩
abbrev dr158 : as_D := ((⟨"FiveTouchModel", "game", "(I)I"⟩ : MethodName), prog_25_method_86_code, 6, (some (.int) : Option FieldType), [])
theorem yk158 : as_Y0 158 = some ((⟨"FiveTouchModel", "game", "(I)I"⟩ : MethodName), prog_25_method_86_code, 6, (some (.int) : Option FieldType), []) := rfl
theorem mk158 : as_mok ⟨"FiveTouchModel", "game", "(I)I"⟩ 1 6 := ⟨⟨by decide, by decide, by decide +kernel⟩, by decide⟩
abbrev dr159 : as_D := ((⟨"FiveTouchModel", "night", "(II)I"⟩ : MethodName), prog_25_method_87_code, 11, (some (.int) : Option FieldType), [])
theorem yk159 : as_Y0 159 = some ((⟨"FiveTouchModel", "night", "(II)I"⟩ : MethodName), prog_25_method_87_code, 11, (some (.int) : Option FieldType), []) := rfl
theorem mk159 : as_mok ⟨"FiveTouchModel", "night", "(II)I"⟩ 2 11 := ⟨⟨by decide, by decide, by decide +kernel⟩, by decide⟩
abbrev dr160 : as_D := ((⟨"FiveTouchModel", "winters", "(II)I"⟩ : MethodName), prog_25_method_89_code, 8, (some (.int) : Option FieldType), [])
theorem yk160 : as_Y0 160 = some ((⟨"FiveTouchModel", "winters", "(II)I"⟩ : MethodName), prog_25_method_89_code, 8, (some (.int) : Option FieldType), []) := rfl
theorem mk160 : as_mok ⟨"FiveTouchModel", "winters", "(II)I"⟩ 2 8 := ⟨⟨by decide, by decide, by decide +kernel⟩, by decide⟩
abbrev dr161 : as_D := ((⟨"FiveTouchModel", "draws", "(I)I"⟩ : MethodName), prog_25_method_88_code, 2, (some (.int) : Option FieldType), [])
theorem yk161 : as_Y0 161 = some ((⟨"FiveTouchModel", "draws", "(I)I"⟩ : MethodName), prog_25_method_88_code, 2, (some (.int) : Option FieldType), []) := rfl
theorem mk161 : as_mok ⟨"FiveTouchModel", "draws", "(I)I"⟩ 1 2 := ⟨⟨by decide, by decide, by decide +kernel⟩, by decide⟩
abbrev dr162 : as_D := ((⟨"FiveTouchModel", "winter", "(I)I"⟩ : MethodName), prog_25_method_90_code, 2, (some (.int) : Option FieldType), [])
theorem yk162 : as_Y0 162 = some ((⟨"FiveTouchModel", "winter", "(I)I"⟩ : MethodName), prog_25_method_90_code, 2, (some (.int) : Option FieldType), []) := rfl
theorem mk162 : as_mok ⟨"FiveTouchModel", "winter", "(I)I"⟩ 1 2 := ⟨⟨by decide, by decide, by decide +kernel⟩, by decide⟩
abbrev dr163 : as_D := ((⟨"FiveTouchModel", "count", "(I)I"⟩ : MethodName), prog_25_method_91_code, 2, (some (.int) : Option FieldType), [])
theorem yk163 : as_Y0 163 = some ((⟨"FiveTouchModel", "count", "(I)I"⟩ : MethodName), prog_25_method_91_code, 2, (some (.int) : Option FieldType), []) := rfl
theorem mk163 : as_mok ⟨"FiveTouchModel", "count", "(I)I"⟩ 1 2 := ⟨⟨by decide, by decide, by decide +kernel⟩, by decide⟩
abbrev dr164 : as_D := ((⟨"FiveTouchModel", "status", "()I"⟩ : MethodName), prog_25_method_92_code, 1, (some (.int) : Option FieldType), [])
theorem yk164 : as_Y0 164 = some ((⟨"FiveTouchModel", "status", "()I"⟩ : MethodName), prog_25_method_92_code, 1, (some (.int) : Option FieldType), []) := rfl
theorem mk164 : as_mok ⟨"FiveTouchModel", "status", "()I"⟩ 0 1 := ⟨⟨by decide, by decide, by decide +kernel⟩, by decide⟩
abbrev dr165 : as_D := ((⟨"FiveTouch$Stone", "canBe", "(IIIII)Z"⟩ : MethodName), prog_18_method_10_code, 5, (some (.boolean) : Option FieldType), [])
theorem yk165 : as_Y0 165 = some ((⟨"FiveTouch$Stone", "canBe", "(IIIII)Z"⟩ : MethodName), prog_18_method_10_code, 5, (some (.boolean) : Option FieldType), []) := rfl
theorem mk165 : as_mok ⟨"FiveTouch$Stone", "canBe", "(IIIII)Z"⟩ 5 5 := ⟨⟨by decide, by decide, by decide +kernel⟩, by decide⟩
abbrev dr166 : as_D := ((⟨"FiveTouch$Stone", "<init>", "(IIIII)V"⟩ : MethodName), prog_18_method_1_code, 6, (none : Option FieldType), [])
theorem yk166 : as_Y0 166 = some ((⟨"FiveTouch$Stone", "<init>", "(IIIII)V"⟩ : MethodName), prog_18_method_1_code, 6, (none : Option FieldType), []) := rfl
theorem mk166 : as_mok ⟨"FiveTouch$Stone", "<init>", "(IIIII)V"⟩ 5 6 := ⟨⟨by decide, by decide, by decide +kernel⟩, by decide⟩
abbrev dr167 : as_D := ((⟨"FiveTouch$Stone", "meets", "(LFiveTouch$Stone;)Z"⟩ : MethodName), prog_18_method_6_code, 2, (some (.boolean) : Option FieldType), [])
theorem yk167 : as_Y0 167 = some ((⟨"FiveTouch$Stone", "meets", "(LFiveTouch$Stone;)Z"⟩ : MethodName), prog_18_method_6_code, 2, (some (.boolean) : Option FieldType), []) := rfl
theorem mk167 : as_mok ⟨"FiveTouch$Stone", "meets", "(LFiveTouch$Stone;)Z"⟩ 1 2 := ⟨⟨by decide, by decide, by decide +kernel⟩, by decide⟩
abbrev dr168 : as_D := ((⟨"FiveTouch$Stone", "columns", "(LFiveTouch$Stone;)I"⟩ : MethodName), prog_18_method_4_code, 2, (some (.int) : Option FieldType), [])
theorem yk168 : as_Y0 168 = some ((⟨"FiveTouch$Stone", "columns", "(LFiveTouch$Stone;)I"⟩ : MethodName), prog_18_method_4_code, 2, (some (.int) : Option FieldType), []) := rfl
theorem mk168 : as_mok ⟨"FiveTouch$Stone", "columns", "(LFiveTouch$Stone;)I"⟩ 1 2 := ⟨⟨by decide, by decide, by decide +kernel⟩, by decide⟩
abbrev dr169 : as_D := ((⟨"FiveTouch$Stone", "common", "(IIII)I"⟩ : MethodName), prog_18_method_3_code, 4, (some (.int) : Option FieldType), [])
theorem yk169 : as_Y0 169 = some ((⟨"FiveTouch$Stone", "common", "(IIII)I"⟩ : MethodName), prog_18_method_3_code, 4, (some (.int) : Option FieldType), []) := rfl
theorem mk169 : as_mok ⟨"FiveTouch$Stone", "common", "(IIII)I"⟩ 4 4 := ⟨⟨by decide, by decide, by decide +kernel⟩, by decide⟩
abbrev dr170 : as_D := ((⟨"FiveTouch$Stone", "rows", "(LFiveTouch$Stone;)I"⟩ : MethodName), prog_18_method_5_code, 2, (some (.int) : Option FieldType), [])
theorem yk170 : as_Y0 170 = some ((⟨"FiveTouch$Stone", "rows", "(LFiveTouch$Stone;)I"⟩ : MethodName), prog_18_method_5_code, 2, (some (.int) : Option FieldType), []) := rfl
theorem mk170 : as_mok ⟨"FiveTouch$Stone", "rows", "(LFiveTouch$Stone;)I"⟩ 1 2 := ⟨⟨by decide, by decide, by decide +kernel⟩, by decide⟩
abbrev dr171 : as_D := ((⟨"FiveTouch$Stone", "has", "(II)Z"⟩ : MethodName), prog_18_method_8_code, 3, (some (.boolean) : Option FieldType), [])
theorem yk171 : as_Y0 171 = some ((⟨"FiveTouch$Stone", "has", "(II)Z"⟩ : MethodName), prog_18_method_8_code, 3, (some (.boolean) : Option FieldType), []) := rfl
theorem mk171 : as_mok ⟨"FiveTouch$Stone", "has", "(II)Z"⟩ 2 3 := ⟨⟨by decide, by decide, by decide +kernel⟩, by decide⟩
abbrev dr172 : as_D := ((⟨"FiveTouch$Stone", "sides", "()I"⟩ : MethodName), prog_18_method_9_code, 1, (some (.int) : Option FieldType), [])
theorem yk172 : as_Y0 172 = some ((⟨"FiveTouch$Stone", "sides", "()I"⟩ : MethodName), prog_18_method_9_code, 1, (some (.int) : Option FieldType), []) := rfl
theorem mk172 : as_mok ⟨"FiveTouch$Stone", "sides", "()I"⟩ 0 1 := ⟨⟨by decide, by decide, by decide +kernel⟩, by decide⟩
abbrev dr173 : as_D := ((⟨"FiveTouch$Stone", "touches", "(LFiveTouch$Stone;)Z"⟩ : MethodName), prog_18_method_7_code, 2, (some (.boolean) : Option FieldType), [])
theorem yk173 : as_Y0 173 = some ((⟨"FiveTouch$Stone", "touches", "(LFiveTouch$Stone;)Z"⟩ : MethodName), prog_18_method_7_code, 2, (some (.boolean) : Option FieldType), []) := rfl
theorem mk173 : as_mok ⟨"FiveTouch$Stone", "touches", "(LFiveTouch$Stone;)Z"⟩ 1 2 := ⟨⟨by decide, by decide, by decide +kernel⟩, by decide⟩
abbrev dr174 : as_D := ((⟨"FiveTouch$Stone", "copy", "()LFiveTouch$Stone;"⟩ : MethodName), prog_18_method_2_code, 2, (some (.object "FiveTouch$Stone") : Option FieldType), [])
theorem yk174 : as_Y0 174 = some ((⟨"FiveTouch$Stone", "copy", "()LFiveTouch$Stone;"⟩ : MethodName), prog_18_method_2_code, 2, (some (.object "FiveTouch$Stone") : Option FieldType), []) := rfl
theorem mk174 : as_mok ⟨"FiveTouch$Stone", "copy", "()LFiveTouch$Stone;"⟩ 0 2 := ⟨⟨by decide, by decide, by decide +kernel⟩, by decide⟩
abbrev dr175 : as_D := ((⟨"FiveTouch$Reader", "<init>", "(LFiveTouch;)V"⟩ : MethodName), prog_14_method_1_code, 2, (none : Option FieldType), [])
theorem yk175 : as_Y0 175 = some ((⟨"FiveTouch$Reader", "<init>", "(LFiveTouch;)V"⟩ : MethodName), prog_14_method_1_code, 2, (none : Option FieldType), []) := rfl
theorem mk175 : as_mok ⟨"FiveTouch$Reader", "<init>", "(LFiveTouch;)V"⟩ 1 2 := ⟨⟨by decide, by decide, by decide +kernel⟩, by decide⟩
abbrev dr176 : as_D := ((⟨"FiveTouch$Reader", "read", "()LFiveTouch$Text;"⟩ : MethodName), prog_14_method_2_code, 4, (some (.object "FiveTouch$Text") : Option FieldType), [])
theorem yk176 : as_Y0 176 = some ((⟨"FiveTouch$Reader", "read", "()LFiveTouch$Text;"⟩ : MethodName), prog_14_method_2_code, 4, (some (.object "FiveTouch$Text") : Option FieldType), []) := rfl
theorem mk176 : as_mok ⟨"FiveTouch$Reader", "read", "()LFiveTouch$Text;"⟩ 0 4 := ⟨⟨by decide, by decide, by decide +kernel⟩, by decide⟩
abbrev dr177 : as_D := ((⟨"FiveTouch$Reader", "next", "()V"⟩ : MethodName), prog_14_method_3_code, 3, (none : Option FieldType), [])
theorem yk177 : as_Y0 177 = some ((⟨"FiveTouch$Reader", "next", "()V"⟩ : MethodName), prog_14_method_3_code, 3, (none : Option FieldType), []) := rfl
theorem mk177 : as_mok ⟨"FiveTouch$Reader", "next", "()V"⟩ 0 3 := ⟨⟨by decide, by decide, by decide +kernel⟩, by decide⟩
abbrev dr178 : as_D := ((⟨"FiveTouch$Reader", "must", "(Z)V"⟩ : MethodName), prog_14_method_7_code, 2, (none : Option FieldType), [])
theorem yk178 : as_Y0 178 = some ((⟨"FiveTouch$Reader", "must", "(Z)V"⟩ : MethodName), prog_14_method_7_code, 2, (none : Option FieldType), []) := rfl
theorem mk178 : as_mok ⟨"FiveTouch$Reader", "must", "(Z)V"⟩ 1 2 := ⟨⟨by decide, by decide, by decide +kernel⟩, by decide⟩
abbrev dr179 : as_D := ((⟨"FiveTouch$Reader", "clause", "()LFiveTouch$Clause;"⟩ : MethodName), prog_14_method_9_code, 4, (some (.object "FiveTouch$Clause") : Option FieldType), [])
theorem yk179 : as_Y0 179 = some ((⟨"FiveTouch$Reader", "clause", "()LFiveTouch$Clause;"⟩ : MethodName), prog_14_method_9_code, 4, (some (.object "FiveTouch$Clause") : Option FieldType), []) := rfl
theorem mk179 : as_mok ⟨"FiveTouch$Reader", "clause", "()LFiveTouch$Clause;"⟩ 0 4 := ⟨⟨by decide, by decide, by decide +kernel⟩, by decide⟩
abbrev dr180 : as_D := ((⟨"FiveTouch$Reader", "which", "([Ljava/lang/String;)I"⟩ : MethodName), prog_14_method_5_code, 3, (some (.int) : Option FieldType), [])
theorem yk180 : as_Y0 180 = some ((⟨"FiveTouch$Reader", "which", "([Ljava/lang/String;)I"⟩ : MethodName), prog_14_method_5_code, 3, (some (.int) : Option FieldType), []) := rfl
theorem mk180 : as_mok ⟨"FiveTouch$Reader", "which", "([Ljava/lang/String;)I"⟩ 1 3 := ⟨⟨by decide, by decide, by decide +kernel⟩, by decide⟩
abbrev dr181 : as_D := ((⟨"FiveTouch$Reader", "isWord", "(Ljava/lang/String;)Z"⟩ : MethodName), prog_14_method_4_code, 3, (some (.boolean) : Option FieldType), [])
theorem yk181 : as_Y0 181 = some ((⟨"FiveTouch$Reader", "isWord", "(Ljava/lang/String;)Z"⟩ : MethodName), prog_14_method_4_code, 3, (some (.boolean) : Option FieldType), []) := rfl
theorem mk181 : as_mok ⟨"FiveTouch$Reader", "isWord", "(Ljava/lang/String;)Z"⟩ 1 3 := ⟨⟨by decide, by decide, by decide +kernel⟩, by decide⟩
abbrev dr182 : as_D := ((⟨"FiveTouch$Reader", "sum", "()LFiveTouch$Sum;"⟩ : MethodName), prog_14_method_18_code, 3, (some (.object "FiveTouch$Sum") : Option FieldType), [])
theorem yk182 : as_Y0 182 = some ((⟨"FiveTouch$Reader", "sum", "()LFiveTouch$Sum;"⟩ : MethodName), prog_14_method_18_code, 3, (some (.object "FiveTouch$Sum") : Option FieldType), []) := rfl
theorem mk182 : as_mok ⟨"FiveTouch$Reader", "sum", "()LFiveTouch$Sum;"⟩ 0 3 := ⟨⟨by decide, by decide, by decide +kernel⟩, by decide⟩
abbrev dr183 : as_D := ((⟨"FiveTouch$Reader", "term", "()LFiveTouch$Sum;"⟩ : MethodName), prog_14_method_19_code, 3, (some (.object "FiveTouch$Sum") : Option FieldType), [])
theorem yk183 : as_Y0 183 = some ((⟨"FiveTouch$Reader", "term", "()LFiveTouch$Sum;"⟩ : MethodName), prog_14_method_19_code, 3, (some (.object "FiveTouch$Sum") : Option FieldType), []) := rfl
theorem mk183 : as_mok ⟨"FiveTouch$Reader", "term", "()LFiveTouch$Sum;"⟩ 0 3 := ⟨⟨by decide, by decide, by decide +kernel⟩, by decide⟩
abbrev dr184 : as_D := ((⟨"FiveTouch$Reader", "part", "()LFiveTouch$Sum;"⟩ : MethodName), prog_14_method_20_code, 2, (some (.object "FiveTouch$Sum") : Option FieldType), [])
theorem yk184 : as_Y0 184 = some ((⟨"FiveTouch$Reader", "part", "()LFiveTouch$Sum;"⟩ : MethodName), prog_14_method_20_code, 2, (some (.object "FiveTouch$Sum") : Option FieldType), []) := rfl
theorem mk184 : as_mok ⟨"FiveTouch$Reader", "part", "()LFiveTouch$Sum;"⟩ 0 2 := ⟨⟨by decide, by decide, by decide +kernel⟩, by decide⟩
abbrev dr185 : as_D := ((⟨"FiveTouch$Reader", "open", "()V"⟩ : MethodName), prog_14_method_14_code, 1, (none : Option FieldType), [])
theorem yk185 : as_Y0 185 = some ((⟨"FiveTouch$Reader", "open", "()V"⟩ : MethodName), prog_14_method_14_code, 1, (none : Option FieldType), []) := rfl
theorem mk185 : as_mok ⟨"FiveTouch$Reader", "open", "()V"⟩ 0 1 := ⟨⟨by decide, by decide, by decide +kernel⟩, by decide⟩
abbrev dr186 : as_D := ((⟨"FiveTouch$Reader", "close", "(Ljava/lang/String;)V"⟩ : MethodName), prog_14_method_15_code, 2, (none : Option FieldType), [])
theorem yk186 : as_Y0 186 = some ((⟨"FiveTouch$Reader", "close", "(Ljava/lang/String;)V"⟩ : MethodName), prog_14_method_15_code, 2, (none : Option FieldType), []) := rfl
theorem mk186 : as_mok ⟨"FiveTouch$Reader", "close", "(Ljava/lang/String;)V"⟩ 1 2 := ⟨⟨by decide, by decide, by decide +kernel⟩, by decide⟩
abbrev dr187 : as_D := ((⟨"FiveTouch$Reader", "accept", "(Ljava/lang/String;)Z"⟩ : MethodName), prog_14_method_6_code, 3, (some (.boolean) : Option FieldType), [])
theorem yk187 : as_Y0 187 = some ((⟨"FiveTouch$Reader", "accept", "(Ljava/lang/String;)Z"⟩ : MethodName), prog_14_method_6_code, 3, (some (.boolean) : Option FieldType), []) := rfl
theorem mk187 : as_mok ⟨"FiveTouch$Reader", "accept", "(Ljava/lang/String;)Z"⟩ 1 3 := ⟨⟨by decide, by decide, by decide +kernel⟩, by decide⟩
abbrev dr188 : as_D := ((⟨"FiveTouch$Reader", "leaf", "()V"⟩ : MethodName), prog_14_method_16_code, 1, (none : Option FieldType), [])
theorem yk188 : as_Y0 188 = some ((⟨"FiveTouch$Reader", "leaf", "()V"⟩ : MethodName), prog_14_method_16_code, 1, (none : Option FieldType), []) := rfl
theorem mk188 : as_mok ⟨"FiveTouch$Reader", "leaf", "()V"⟩ 0 1 := ⟨⟨by decide, by decide, by decide +kernel⟩, by decide⟩
abbrev dr189 : as_D := ((⟨"FiveTouch$Reader", "number", "(I)I"⟩ : MethodName), prog_14_method_8_code, 4, (some (.int) : Option FieldType), [])
theorem yk189 : as_Y0 189 = some ((⟨"FiveTouch$Reader", "number", "(I)I"⟩ : MethodName), prog_14_method_8_code, 4, (some (.int) : Option FieldType), []) := rfl
theorem mk189 : as_mok ⟨"FiveTouch$Reader", "number", "(I)I"⟩ 1 4 := ⟨⟨by decide, by decide, by decide +kernel⟩, by decide⟩
abbrev dr190 : as_D := ((⟨"FiveTouch$Reader", "test", "()LFiveTouch$Test;"⟩ : MethodName), prog_14_method_10_code, 2, (some (.object "FiveTouch$Test") : Option FieldType), [])
theorem yk190 : as_Y0 190 = some ((⟨"FiveTouch$Reader", "test", "()LFiveTouch$Test;"⟩ : MethodName), prog_14_method_10_code, 2, (some (.object "FiveTouch$Test") : Option FieldType), []) := rfl
theorem mk190 : as_mok ⟨"FiveTouch$Reader", "test", "()LFiveTouch$Test;"⟩ 0 2 := ⟨⟨by decide, by decide, by decide +kernel⟩, by decide⟩
abbrev dr191 : as_D := ((⟨"FiveTouch$Reader", "both", "()LFiveTouch$Test;"⟩ : MethodName), prog_14_method_11_code, 2, (some (.object "FiveTouch$Test") : Option FieldType), [])
theorem yk191 : as_Y0 191 = some ((⟨"FiveTouch$Reader", "both", "()LFiveTouch$Test;"⟩ : MethodName), prog_14_method_11_code, 2, (some (.object "FiveTouch$Test") : Option FieldType), []) := rfl
theorem mk191 : as_mok ⟨"FiveTouch$Reader", "both", "()LFiveTouch$Test;"⟩ 0 2 := ⟨⟨by decide, by decide, by decide +kernel⟩, by decide⟩
abbrev dr192 : as_D := ((⟨"FiveTouch$Reader", "plain", "()LFiveTouch$Test;"⟩ : MethodName), prog_14_method_17_code, 5, (some (.object "FiveTouch$Test") : Option FieldType), [])
theorem yk192 : as_Y0 192 = some ((⟨"FiveTouch$Reader", "plain", "()LFiveTouch$Test;"⟩ : MethodName), prog_14_method_17_code, 5, (some (.object "FiveTouch$Test") : Option FieldType), []) := rfl
theorem mk192 : as_mok ⟨"FiveTouch$Reader", "plain", "()LFiveTouch$Test;"⟩ 0 5 := ⟨⟨by decide, by decide, by decide +kernel⟩, by decide⟩
abbrev dr193 : as_D := ((⟨"FiveTouch$Reader", "add", "(LFiveTouch$Test;)V"⟩ : MethodName), prog_14_method_12_code, 2, (none : Option FieldType), [])
theorem yk193 : as_Y0 193 = some ((⟨"FiveTouch$Reader", "add", "(LFiveTouch$Test;)V"⟩ : MethodName), prog_14_method_12_code, 2, (none : Option FieldType), []) := rfl
theorem mk193 : as_mok ⟨"FiveTouch$Reader", "add", "(LFiveTouch$Test;)V"⟩ 1 2 := ⟨⟨by decide, by decide, by decide +kernel⟩, by decide⟩
abbrev dr194 : as_D := ((⟨"FiveTouch$Reader", "row", "(ZI)LFiveTouch$Test;"⟩ : MethodName), prog_14_method_13_code, 5, (some (.object "FiveTouch$Test") : Option FieldType), [])
theorem yk194 : as_Y0 194 = some ((⟨"FiveTouch$Reader", "row", "(ZI)LFiveTouch$Test;"⟩ : MethodName), prog_14_method_13_code, 5, (some (.object "FiveTouch$Test") : Option FieldType), []) := rfl
theorem mk194 : as_mok ⟨"FiveTouch$Reader", "row", "(ZI)LFiveTouch$Test;"⟩ 2 5 := ⟨⟨by decide, by decide, by decide +kernel⟩, by decide⟩
abbrev dr195 : as_D := ((⟨"FiveTouch$Wrong", "<init>", "(I)V"⟩ : MethodName), prog_22_method_1_code, 2, (none : Option FieldType), [])
theorem yk195 : as_Y0 195 = some ((⟨"FiveTouch$Wrong", "<init>", "(I)V"⟩ : MethodName), prog_22_method_1_code, 2, (none : Option FieldType), []) := rfl
theorem mk195 : as_mok ⟨"FiveTouch$Wrong", "<init>", "(I)V"⟩ 1 2 := ⟨⟨by decide, by decide, by decide +kernel⟩, by decide⟩
abbrev dr196 : as_D := ((⟨"FiveTouch$Sum", "<init>", "()V"⟩ : MethodName), prog_19_method_1_code, 1, (none : Option FieldType), [])
theorem yk196 : as_Y0 196 = some ((⟨"FiveTouch$Sum", "<init>", "()V"⟩ : MethodName), prog_19_method_1_code, 1, (none : Option FieldType), []) := rfl
theorem mk196 : as_mok ⟨"FiveTouch$Sum", "<init>", "()V"⟩ 0 1 := ⟨⟨by decide, by decide, by decide +kernel⟩, by decide⟩
abbrev dr197 : as_D := ((⟨"FiveTouch$Amount", "<init>", "(I)V"⟩ : MethodName), prog_2_method_1_code, 2, (none : Option FieldType), [])
theorem yk197 : as_Y0 197 = some ((⟨"FiveTouch$Amount", "<init>", "(I)V"⟩ : MethodName), prog_2_method_1_code, 2, (none : Option FieldType), []) := rfl
theorem mk197 : as_mok ⟨"FiveTouch$Amount", "<init>", "(I)V"⟩ 1 2 := ⟨⟨by decide, by decide, by decide +kernel⟩, by decide⟩
abbrev dr198 : as_D := ((⟨"FiveTouch$Amount", "of", "(LFiveTouch$Asked;)J"⟩ : MethodName), prog_2_method_2_code, 2, (some (.long) : Option FieldType), [])
theorem yk198 : as_Y0 198 = some ((⟨"FiveTouch$Amount", "of", "(LFiveTouch$Asked;)J"⟩ : MethodName), prog_2_method_2_code, 2, (some (.long) : Option FieldType), []) := rfl
theorem mk198 : as_mok ⟨"FiveTouch$Amount", "of", "(LFiveTouch$Asked;)J"⟩ 1 2 := ⟨⟨by decide, by decide, by decide +kernel⟩, by decide⟩
abbrev dr199 : as_D := ((⟨"FiveTouch$Part", "<init>", "(I)V"⟩ : MethodName), prog_13_method_1_code, 2, (none : Option FieldType), [])
theorem yk199 : as_Y0 199 = some ((⟨"FiveTouch$Part", "<init>", "(I)V"⟩ : MethodName), prog_13_method_1_code, 2, (none : Option FieldType), []) := rfl
theorem mk199 : as_mok ⟨"FiveTouch$Part", "<init>", "(I)V"⟩ 1 2 := ⟨⟨by decide, by decide, by decide +kernel⟩, by decide⟩
abbrev dr200 : as_D := ((⟨"FiveTouch$Part", "of", "(LFiveTouch$Asked;)J"⟩ : MethodName), prog_13_method_2_code, 2, (some (.long) : Option FieldType), [])
theorem yk200 : as_Y0 200 = some ((⟨"FiveTouch$Part", "of", "(LFiveTouch$Asked;)J"⟩ : MethodName), prog_13_method_2_code, 2, (some (.long) : Option FieldType), []) := rfl
theorem mk200 : as_mok ⟨"FiveTouch$Part", "of", "(LFiveTouch$Asked;)J"⟩ 1 2 := ⟨⟨by decide, by decide, by decide +kernel⟩, by decide⟩
abbrev dr201 : as_D := ((⟨"FiveTouch$Joined", "<init>", "(LFiveTouch$Sum;ILFiveTouch$Sum;)V"⟩ : MethodName), prog_9_method_1_code, 4, (none : Option FieldType), [])
theorem yk201 : as_Y0 201 = some ((⟨"FiveTouch$Joined", "<init>", "(LFiveTouch$Sum;ILFiveTouch$Sum;)V"⟩ : MethodName), prog_9_method_1_code, 4, (none : Option FieldType), []) := rfl
theorem mk201 : as_mok ⟨"FiveTouch$Joined", "<init>", "(LFiveTouch$Sum;ILFiveTouch$Sum;)V"⟩ 3 4 := ⟨⟨by decide, by decide, by decide +kernel⟩, by decide⟩
abbrev dr202 : as_D := ((⟨"FiveTouch$Joined", "of", "(LFiveTouch$Asked;)J"⟩ : MethodName), prog_9_method_2_code, 6, (some (.long) : Option FieldType), [])
theorem yk202 : as_Y0 202 = some ((⟨"FiveTouch$Joined", "of", "(LFiveTouch$Asked;)J"⟩ : MethodName), prog_9_method_2_code, 6, (some (.long) : Option FieldType), []) := rfl
theorem mk202 : as_mok ⟨"FiveTouch$Joined", "of", "(LFiveTouch$Asked;)J"⟩ 1 6 := ⟨⟨by decide, by decide, by decide +kernel⟩, by decide⟩
abbrev dr203 : as_D := ((⟨"FiveTouch$Test", "<init>", "()V"⟩ : MethodName), prog_20_method_1_code, 1, (none : Option FieldType), [])
theorem yk203 : as_Y0 203 = some ((⟨"FiveTouch$Test", "<init>", "()V"⟩ : MethodName), prog_20_method_1_code, 1, (none : Option FieldType), []) := rfl
theorem mk203 : as_mok ⟨"FiveTouch$Test", "<init>", "()V"⟩ 0 1 := ⟨⟨by decide, by decide, by decide +kernel⟩, by decide⟩
abbrev dr204 : as_D := ((⟨"FiveTouch$Compared", "<init>", "(LFiveTouch$Sum;ILFiveTouch$Sum;)V"⟩ : MethodName), prog_6_method_1_code, 4, (none : Option FieldType), [])
theorem yk204 : as_Y0 204 = some ((⟨"FiveTouch$Compared", "<init>", "(LFiveTouch$Sum;ILFiveTouch$Sum;)V"⟩ : MethodName), prog_6_method_1_code, 4, (none : Option FieldType), []) := rfl
theorem mk204 : as_mok ⟨"FiveTouch$Compared", "<init>", "(LFiveTouch$Sum;ILFiveTouch$Sum;)V"⟩ 3 4 := ⟨⟨by decide, by decide, by decide +kernel⟩, by decide⟩
abbrev dr205 : as_D := ((⟨"FiveTouch$Compared", "of", "(LFiveTouch$Asked;)Z"⟩ : MethodName), prog_6_method_2_code, 6, (some (.boolean) : Option FieldType), [])
theorem yk205 : as_Y0 205 = some ((⟨"FiveTouch$Compared", "of", "(LFiveTouch$Asked;)Z"⟩ : MethodName), prog_6_method_2_code, 6, (some (.boolean) : Option FieldType), []) := rfl
theorem mk205 : as_mok ⟨"FiveTouch$Compared", "of", "(LFiveTouch$Asked;)Z"⟩ 1 6 := ⟨⟨by decide, by decide, by decide +kernel⟩, by decide⟩
abbrev dr206 : as_D := ((⟨"FiveTouch$Not", "<init>", "(LFiveTouch$Test;)V"⟩ : MethodName), prog_11_method_1_code, 2, (none : Option FieldType), [])
theorem yk206 : as_Y0 206 = some ((⟨"FiveTouch$Not", "<init>", "(LFiveTouch$Test;)V"⟩ : MethodName), prog_11_method_1_code, 2, (none : Option FieldType), []) := rfl
theorem mk206 : as_mok ⟨"FiveTouch$Not", "<init>", "(LFiveTouch$Test;)V"⟩ 1 2 := ⟨⟨by decide, by decide, by decide +kernel⟩, by decide⟩
abbrev dr207 : as_D := ((⟨"FiveTouch$Not", "of", "(LFiveTouch$Asked;)Z"⟩ : MethodName), prog_11_method_2_code, 2, (some (.boolean) : Option FieldType), [])
theorem yk207 : as_Y0 207 = some ((⟨"FiveTouch$Not", "of", "(LFiveTouch$Asked;)Z"⟩ : MethodName), prog_11_method_2_code, 2, (some (.boolean) : Option FieldType), []) := rfl
theorem mk207 : as_mok ⟨"FiveTouch$Not", "of", "(LFiveTouch$Asked;)Z"⟩ 1 2 := ⟨⟨by decide, by decide, by decide +kernel⟩, by decide⟩
abbrev dr208 : as_D := ((⟨"FiveTouch$Row", "<init>", "(Z[LFiveTouch$Test;)V"⟩ : MethodName), prog_15_method_1_code, 3, (none : Option FieldType), [])
theorem yk208 : as_Y0 208 = some ((⟨"FiveTouch$Row", "<init>", "(Z[LFiveTouch$Test;)V"⟩ : MethodName), prog_15_method_1_code, 3, (none : Option FieldType), []) := rfl
theorem mk208 : as_mok ⟨"FiveTouch$Row", "<init>", "(Z[LFiveTouch$Test;)V"⟩ 2 3 := ⟨⟨by decide, by decide, by decide +kernel⟩, by decide⟩
abbrev dr209 : as_D := ((⟨"FiveTouch$Row", "of", "(LFiveTouch$Asked;)Z"⟩ : MethodName), prog_15_method_2_code, 7, (some (.boolean) : Option FieldType), [])
theorem yk209 : as_Y0 209 = some ((⟨"FiveTouch$Row", "of", "(LFiveTouch$Asked;)Z"⟩ : MethodName), prog_15_method_2_code, 7, (some (.boolean) : Option FieldType), []) := rfl
theorem mk209 : as_mok ⟨"FiveTouch$Row", "of", "(LFiveTouch$Asked;)Z"⟩ 1 7 := ⟨⟨by decide, by decide, by decide +kernel⟩, by decide⟩
abbrev dr210 : as_D := ((⟨"FiveTouch$Clause", "<init>", "(ILFiveTouch$Sum;LFiveTouch$Test;)V"⟩ : MethodName), prog_5_method_1_code, 4, (none : Option FieldType), [])
theorem yk210 : as_Y0 210 = some ((⟨"FiveTouch$Clause", "<init>", "(ILFiveTouch$Sum;LFiveTouch$Test;)V"⟩ : MethodName), prog_5_method_1_code, 4, (none : Option FieldType), []) := rfl
theorem mk210 : as_mok ⟨"FiveTouch$Clause", "<init>", "(ILFiveTouch$Sum;LFiveTouch$Test;)V"⟩ 3 4 := ⟨⟨by decide, by decide, by decide +kernel⟩, by decide⟩
abbrev dr211 : as_D := ((⟨"FiveTouch$Clause", "holds", "(LFiveTouch$Asked;)Z"⟩ : MethodName), prog_5_method_2_code, 2, (some (.boolean) : Option FieldType), [])
theorem yk211 : as_Y0 211 = some ((⟨"FiveTouch$Clause", "holds", "(LFiveTouch$Asked;)Z"⟩ : MethodName), prog_5_method_2_code, 2, (some (.boolean) : Option FieldType), []) := rfl
theorem mk211 : as_mok ⟨"FiveTouch$Clause", "holds", "(LFiveTouch$Asked;)Z"⟩ 1 2 := ⟨⟨by decide, by decide, by decide +kernel⟩, by decide⟩
abbrev dr212 : as_D := ((⟨"FiveTouch$Search", "<init>", "(LFiveTouch;)V"⟩ : MethodName), prog_17_method_1_code, 2, (none : Option FieldType), [])
theorem yk212 : as_Y0 212 = some ((⟨"FiveTouch$Search", "<init>", "(LFiveTouch;)V"⟩ : MethodName), prog_17_method_1_code, 2, (none : Option FieldType), []) := rfl
theorem mk212 : as_mok ⟨"FiveTouch$Search", "<init>", "(LFiveTouch;)V"⟩ 1 2 := ⟨⟨by decide, by decide, by decide +kernel⟩, by decide⟩
abbrev dr213 : as_D := ((⟨"FiveTouch$Search", "go", "(I)V"⟩ : MethodName), prog_17_method_2_code, 3, (none : Option FieldType), [])
theorem yk213 : as_Y0 213 = some ((⟨"FiveTouch$Search", "go", "(I)V"⟩ : MethodName), prog_17_method_2_code, 3, (none : Option FieldType), []) := rfl
theorem mk213 : as_mok ⟨"FiveTouch$Search", "go", "(I)V"⟩ 1 3 := ⟨⟨by decide, by decide, by decide +kernel⟩, by decide⟩
abbrev dr214 : as_D := ((⟨"FiveTouch$AtOnce", "<init>", "(LFiveTouch;)V"⟩ : MethodName), prog_4_method_1_code, 2, (none : Option FieldType), [])
theorem yk214 : as_Y0 214 = some ((⟨"FiveTouch$AtOnce", "<init>", "(LFiveTouch;)V"⟩ : MethodName), prog_4_method_1_code, 2, (none : Option FieldType), []) := rfl
theorem mk214 : as_mok ⟨"FiveTouch$AtOnce", "<init>", "(LFiveTouch;)V"⟩ 1 2 := ⟨⟨by decide, by decide, by decide +kernel⟩, by decide⟩
abbrev dr215 : as_D := ((⟨"FiveTouch$AtOnce", "counts", "(I)Z"⟩ : MethodName), prog_4_method_2_code, 2, (some (.boolean) : Option FieldType), [])
theorem yk215 : as_Y0 215 = some ((⟨"FiveTouch$AtOnce", "counts", "(I)Z"⟩ : MethodName), prog_4_method_2_code, 2, (some (.boolean) : Option FieldType), []) := rfl
theorem mk215 : as_mok ⟨"FiveTouch$AtOnce", "counts", "(I)Z"⟩ 1 2 := ⟨⟨by decide, by decide, by decide +kernel⟩, by decide⟩
abbrev dr216 : as_D := ((⟨"FiveTouch$AtOnce", "isBetter", "(II)Z"⟩ : MethodName), prog_4_method_3_code, 3, (some (.boolean) : Option FieldType), [])
theorem yk216 : as_Y0 216 = some ((⟨"FiveTouch$AtOnce", "isBetter", "(II)Z"⟩ : MethodName), prog_4_method_3_code, 3, (some (.boolean) : Option FieldType), []) := rfl
theorem mk216 : as_mok ⟨"FiveTouch$AtOnce", "isBetter", "(II)Z"⟩ 2 3 := ⟨⟨by decide, by decide, by decide +kernel⟩, by decide⟩
abbrev dr217 : as_D := ((⟨"FiveTouch$OneByOne", "counts", "(I)Z"⟩ : MethodName), prog_12_method_3_code, 2, (some (.boolean) : Option FieldType), [])
theorem yk217 : as_Y0 217 = some ((⟨"FiveTouch$OneByOne", "counts", "(I)Z"⟩ : MethodName), prog_12_method_3_code, 2, (some (.boolean) : Option FieldType), []) := rfl
theorem mk217 : as_mok ⟨"FiveTouch$OneByOne", "counts", "(I)Z"⟩ 1 2 := ⟨⟨by decide, by decide, by decide +kernel⟩, by decide⟩
abbrev dr218 : as_D := ((⟨"FiveTouch$OneByOne", "isBetter", "(II)Z"⟩ : MethodName), prog_12_method_4_code, 3, (some (.boolean) : Option FieldType), [])
theorem yk218 : as_Y0 218 = some ((⟨"FiveTouch$OneByOne", "isBetter", "(II)Z"⟩ : MethodName), prog_12_method_4_code, 3, (some (.boolean) : Option FieldType), []) := rfl
theorem mk218 : as_mok ⟨"FiveTouch$OneByOne", "isBetter", "(II)Z"⟩ 2 3 := ⟨⟨by decide, by decide, by decide +kernel⟩, by decide⟩
abbrev dr219 : as_D := ((⟨"FiveTouch$OneByOne", "<init>", "(LFiveTouch;)V"⟩ : MethodName), prog_12_method_1_code, 3, (none : Option FieldType), [])
theorem yk219 : as_Y0 219 = some ((⟨"FiveTouch$OneByOne", "<init>", "(LFiveTouch;)V"⟩ : MethodName), prog_12_method_1_code, 3, (none : Option FieldType), []) := rfl
theorem mk219 : as_mok ⟨"FiveTouch$OneByOne", "<init>", "(LFiveTouch;)V"⟩ 1 3 := ⟨⟨by decide, by decide, by decide +kernel⟩, by decide⟩
abbrev dr220 : as_D := ((⟨"FiveTouch$OneByOne", "isComeTo", "(I)Z"⟩ : MethodName), prog_12_method_2_code, 3, (some (.boolean) : Option FieldType), [])
theorem yk220 : as_Y0 220 = some ((⟨"FiveTouch$OneByOne", "isComeTo", "(I)Z"⟩ : MethodName), prog_12_method_2_code, 3, (some (.boolean) : Option FieldType), []) := rfl
theorem mk220 : as_mok ⟨"FiveTouch$OneByOne", "isComeTo", "(I)Z"⟩ 1 3 := ⟨⟨by decide, by decide, by decide +kernel⟩, by decide⟩
abbrev dr221 : as_D := ((⟨"FiveTouch$Felling", "counts", "(I)Z"⟩ : MethodName), prog_8_method_2_code, 2, (some (.boolean) : Option FieldType), [])
theorem yk221 : as_Y0 221 = some ((⟨"FiveTouch$Felling", "counts", "(I)Z"⟩ : MethodName), prog_8_method_2_code, 2, (some (.boolean) : Option FieldType), []) := rfl
theorem mk221 : as_mok ⟨"FiveTouch$Felling", "counts", "(I)Z"⟩ 1 2 := ⟨⟨by decide, by decide, by decide +kernel⟩, by decide⟩
abbrev dr222 : as_D := ((⟨"FiveTouch$Felling", "isBetter", "(II)Z"⟩ : MethodName), prog_8_method_3_code, 3, (some (.boolean) : Option FieldType), [])
theorem yk222 : as_Y0 222 = some ((⟨"FiveTouch$Felling", "isBetter", "(II)Z"⟩ : MethodName), prog_8_method_3_code, 3, (some (.boolean) : Option FieldType), []) := rfl
theorem mk222 : as_mok ⟨"FiveTouch$Felling", "isBetter", "(II)Z"⟩ 2 3 := ⟨⟨by decide, by decide, by decide +kernel⟩, by decide⟩
abbrev dr223 : as_D := ((⟨"FiveTouch$Felling", "<init>", "(LFiveTouch;)V"⟩ : MethodName), prog_8_method_1_code, 2, (none : Option FieldType), [])
theorem yk223 : as_Y0 223 = some ((⟨"FiveTouch$Felling", "<init>", "(LFiveTouch;)V"⟩ : MethodName), prog_8_method_1_code, 2, (none : Option FieldType), []) := rfl
theorem mk223 : as_mok ⟨"FiveTouch$Felling", "<init>", "(LFiveTouch;)V"⟩ 1 2 := ⟨⟨by decide, by decide, by decide +kernel⟩, by decide⟩
abbrev dr224 : as_D := ((⟨"FiveTouch$Mending", "counts", "(I)Z"⟩ : MethodName), prog_10_method_2_code, 2, (some (.boolean) : Option FieldType), [])
theorem yk224 : as_Y0 224 = some ((⟨"FiveTouch$Mending", "counts", "(I)Z"⟩ : MethodName), prog_10_method_2_code, 2, (some (.boolean) : Option FieldType), []) := rfl
theorem mk224 : as_mok ⟨"FiveTouch$Mending", "counts", "(I)Z"⟩ 1 2 := ⟨⟨by decide, by decide, by decide +kernel⟩, by decide⟩
abbrev dr225 : as_D := ((⟨"FiveTouch$Mending", "isBetter", "(II)Z"⟩ : MethodName), prog_10_method_3_code, 3, (some (.boolean) : Option FieldType), [])
theorem yk225 : as_Y0 225 = some ((⟨"FiveTouch$Mending", "isBetter", "(II)Z"⟩ : MethodName), prog_10_method_3_code, 3, (some (.boolean) : Option FieldType), []) := rfl
theorem mk225 : as_mok ⟨"FiveTouch$Mending", "isBetter", "(II)Z"⟩ 2 3 := ⟨⟨by decide, by decide, by decide +kernel⟩, by decide⟩
abbrev dr226 : as_D := ((⟨"FiveTouch$Mending", "<init>", "(LFiveTouch;)V"⟩ : MethodName), prog_10_method_1_code, 2, (none : Option FieldType), [])
theorem yk226 : as_Y0 226 = some ((⟨"FiveTouch$Mending", "<init>", "(LFiveTouch;)V"⟩ : MethodName), prog_10_method_1_code, 2, (none : Option FieldType), []) := rfl
theorem mk226 : as_mok ⟨"FiveTouch$Mending", "<init>", "(LFiveTouch;)V"⟩ 1 2 := ⟨⟨by decide, by decide, by decide +kernel⟩, by decide⟩
abbrev dr227 : as_D := ((⟨"FiveTouch$Draws", "<init>", "(I)V"⟩ : MethodName), prog_7_method_1_code, 2, (none : Option FieldType), [])
theorem yk227 : as_Y0 227 = some ((⟨"FiveTouch$Draws", "<init>", "(I)V"⟩ : MethodName), prog_7_method_1_code, 2, (none : Option FieldType), []) := rfl
theorem mk227 : as_mok ⟨"FiveTouch$Draws", "<init>", "(I)V"⟩ 1 2 := ⟨⟨by decide, by decide, by decide +kernel⟩, by decide⟩
abbrev dr228 : as_D := ((⟨"FiveTouch$Draws", "of", "(I)I"⟩ : MethodName), prog_7_method_2_code, 2, (some (.int) : Option FieldType), [])
theorem yk228 : as_Y0 228 = some ((⟨"FiveTouch$Draws", "of", "(I)I"⟩ : MethodName), prog_7_method_2_code, 2, (some (.int) : Option FieldType), []) := rfl
theorem mk228 : as_mok ⟨"FiveTouch$Draws", "of", "(I)I"⟩ 1 2 := ⟨⟨by decide, by decide, by decide +kernel⟩, by decide⟩
abbrev dr229 : as_D := ((⟨"java/util/ArrayList", "<init>", "()V"⟩ : MethodName), prog_46_method_2_code, 1, (none : Option FieldType), [])
theorem yk229 : as_Y0 229 = some ((⟨"java/util/ArrayList", "<init>", "()V"⟩ : MethodName), prog_46_method_2_code, 1, (none : Option FieldType), []) := rfl
theorem mk229 : as_mok ⟨"java/util/ArrayList", "<init>", "()V"⟩ 0 1 := ⟨⟨by decide, by decide, by decide +kernel⟩, by decide⟩
abbrev dr230 : as_D := ((⟨"java/util/ArrayList", "size", "()I"⟩ : MethodName), prog_46_method_8_code, 1, (some (.int) : Option FieldType), [])
theorem yk230 : as_Y0 230 = some ((⟨"java/util/ArrayList", "size", "()I"⟩ : MethodName), prog_46_method_8_code, 1, (some (.int) : Option FieldType), []) := rfl
theorem mk230 : as_mok ⟨"java/util/ArrayList", "size", "()I"⟩ 0 1 := ⟨⟨by decide, by decide, by decide +kernel⟩, by decide⟩
abbrev dr231 : as_D := ((⟨"java/util/ArrayList", "get", "(I)Ljava/lang/Object;"⟩ : MethodName), prog_46_method_20_code, 2, (some (.object "java/lang/Object") : Option FieldType), [])
theorem yk231 : as_Y0 231 = some ((⟨"java/util/ArrayList", "get", "(I)Ljava/lang/Object;"⟩ : MethodName), prog_46_method_20_code, 2, (some (.object "java/lang/Object") : Option FieldType), []) := rfl
theorem mk231 : as_mok ⟨"java/util/ArrayList", "get", "(I)Ljava/lang/Object;"⟩ 1 2 := ⟨⟨by decide, by decide, by decide +kernel⟩, by decide⟩
abbrev dr232 : as_D := ((⟨"java/util/ArrayList", "elementData", "(I)Ljava/lang/Object;"⟩ : MethodName), prog_46_method_18_code, 2, (some (.object "java/lang/Object") : Option FieldType), [])
theorem yk232 : as_Y0 232 = some ((⟨"java/util/ArrayList", "elementData", "(I)Ljava/lang/Object;"⟩ : MethodName), prog_46_method_18_code, 2, (some (.object "java/lang/Object") : Option FieldType), []) := rfl
theorem mk232 : as_mok ⟨"java/util/ArrayList", "elementData", "(I)Ljava/lang/Object;"⟩ 1 2 := ⟨⟨by decide, by decide, by decide +kernel⟩, by decide⟩
abbrev dr233 : as_D := ((⟨"java/util/ArrayList", "add", "(Ljava/lang/Object;)Z"⟩ : MethodName), prog_46_method_25_code, 2, (some (.boolean) : Option FieldType), [])
theorem yk233 : as_Y0 233 = some ((⟨"java/util/ArrayList", "add", "(Ljava/lang/Object;)Z"⟩ : MethodName), prog_46_method_25_code, 2, (some (.boolean) : Option FieldType), []) := rfl
theorem mk233 : as_mok ⟨"java/util/ArrayList", "add", "(Ljava/lang/Object;)Z"⟩ 1 2 := ⟨⟨by decide, by decide, by decide +kernel⟩, by decide⟩
abbrev dr234 : as_D := ((⟨"java/util/ArrayList", "add", "(Ljava/lang/Object;[Ljava/lang/Object;I)V"⟩ : MethodName), prog_46_method_24_code, 4, (none : Option FieldType), [])
theorem yk234 : as_Y0 234 = some ((⟨"java/util/ArrayList", "add", "(Ljava/lang/Object;[Ljava/lang/Object;I)V"⟩ : MethodName), prog_46_method_24_code, 4, (none : Option FieldType), []) := rfl
theorem mk234 : as_mok ⟨"java/util/ArrayList", "add", "(Ljava/lang/Object;[Ljava/lang/Object;I)V"⟩ 3 4 := ⟨⟨by decide, by decide, by decide +kernel⟩, by decide⟩
abbrev dr235 : as_D := ((⟨"java/util/ArrayList", "grow", "()[Ljava/lang/Object;"⟩ : MethodName), prog_46_method_7_code, 1, (some (.array (.object "java/lang/Object")) : Option FieldType), [])
theorem yk235 : as_Y0 235 = some ((⟨"java/util/ArrayList", "grow", "()[Ljava/lang/Object;"⟩ : MethodName), prog_46_method_7_code, 1, (some (.array (.object "java/lang/Object")) : Option FieldType), []) := rfl
theorem mk235 : as_mok ⟨"java/util/ArrayList", "grow", "()[Ljava/lang/Object;"⟩ 0 1 := ⟨⟨by decide, by decide, by decide +kernel⟩, by decide⟩
abbrev dr236 : as_D := ((⟨"java/util/ArrayList", "grow", "(I)[Ljava/lang/Object;"⟩ : MethodName), prog_46_method_6_code, 4, (some (.array (.object "java/lang/Object")) : Option FieldType), [])
theorem yk236 : as_Y0 236 = some ((⟨"java/util/ArrayList", "grow", "(I)[Ljava/lang/Object;"⟩ : MethodName), prog_46_method_6_code, 4, (some (.array (.object "java/lang/Object")) : Option FieldType), []) := rfl
theorem mk236 : as_mok ⟨"java/util/ArrayList", "grow", "(I)[Ljava/lang/Object;"⟩ 1 4 := ⟨⟨by decide, by decide, by decide +kernel⟩, by decide⟩
abbrev dr237 : as_D := ((⟨"java/util/AbstractList", "<init>", "()V"⟩ : MethodName), prog_45_method_1_code, 1, (none : Option FieldType), [])
theorem yk237 : as_Y0 237 = some ((⟨"java/util/AbstractList", "<init>", "()V"⟩ : MethodName), prog_45_method_1_code, 1, (none : Option FieldType), []) := rfl
theorem mk237 : as_mok ⟨"java/util/AbstractList", "<init>", "()V"⟩ 0 1 := ⟨⟨by decide, by decide, by decide +kernel⟩, by decide⟩
abbrev dr238 : as_D := ((⟨"java/util/AbstractCollection", "<init>", "()V"⟩ : MethodName), prog_44_method_1_code, 1, (none : Option FieldType), [])
theorem yk238 : as_Y0 238 = some ((⟨"java/util/AbstractCollection", "<init>", "()V"⟩ : MethodName), prog_44_method_1_code, 1, (none : Option FieldType), []) := rfl
theorem mk238 : as_mok ⟨"java/util/AbstractCollection", "<init>", "()V"⟩ 0 1 := ⟨⟨by decide, by decide, by decide +kernel⟩, by decide⟩
abbrev dr239 : as_D := ((⟨"java/util/Objects", "checkIndex", "(II)I"⟩ : MethodName), prog_50_method_17_code, 2, (some (.int) : Option FieldType), [])
theorem yk239 : as_Y0 239 = some ((⟨"java/util/Objects", "checkIndex", "(II)I"⟩ : MethodName), prog_50_method_17_code, 2, (some (.int) : Option FieldType), []) := rfl
theorem mk239 : as_mok ⟨"java/util/Objects", "checkIndex", "(II)I"⟩ 2 2 := ⟨⟨by decide, by decide, by decide +kernel⟩, by decide⟩
abbrev dr240 : as_D := ((⟨"jdk/internal/util/Preconditions", "checkIndex", "(IILjava/util/function/BiFunction;)I"⟩ : MethodName), prog_54_method_11_code, 3, (some (.int) : Option FieldType), [])
theorem yk240 : as_Y0 240 = some ((⟨"jdk/internal/util/Preconditions", "checkIndex", "(IILjava/util/function/BiFunction;)I"⟩ : MethodName), prog_54_method_11_code, 3, (some (.int) : Option FieldType), []) := rfl
theorem mk240 : as_mok ⟨"jdk/internal/util/Preconditions", "checkIndex", "(IILjava/util/function/BiFunction;)I"⟩ 3 3 := ⟨⟨by decide, by decide, by decide +kernel⟩, by decide⟩
abbrev dr241 : as_D := ((⟨"jdk/internal/util/ArraysSupport", "newLength", "(III)I"⟩ : MethodName), prog_53_method_27_code, 4, (some (.int) : Option FieldType), [])
theorem yk241 : as_Y0 241 = some ((⟨"jdk/internal/util/ArraysSupport", "newLength", "(III)I"⟩ : MethodName), prog_53_method_27_code, 4, (some (.int) : Option FieldType), []) := rfl
theorem mk241 : as_mok ⟨"jdk/internal/util/ArraysSupport", "newLength", "(III)I"⟩ 3 4 := ⟨⟨by decide, by decide, by decide +kernel⟩, by decide⟩
abbrev dr242 : as_D := ((⟨"java/util/Arrays", "copyOf", "([Ljava/lang/Object;I)[Ljava/lang/Object;"⟩ : MethodName), prog_47_method_119_code, 2, (some (.array (.object "java/lang/Object")) : Option FieldType), [])
theorem yk242 : as_Y0 242 = some ((⟨"java/util/Arrays", "copyOf", "([Ljava/lang/Object;I)[Ljava/lang/Object;"⟩ : MethodName), prog_47_method_119_code, 2, (some (.array (.object "java/lang/Object")) : Option FieldType), []) := rfl
theorem mk242 : as_mok ⟨"java/util/Arrays", "copyOf", "([Ljava/lang/Object;I)[Ljava/lang/Object;"⟩ 2 2 := ⟨⟨by decide, by decide, by decide +kernel⟩, by decide⟩
abbrev dr243 : as_D := ((⟨"java/util/Arrays", "copyOf", "([Ljava/lang/Object;ILjava/lang/Class;)[Ljava/lang/Object;"⟩ : MethodName), prog_47_method_120_code, 4, (some (.array (.object "java/lang/Object")) : Option FieldType), [])
theorem yk243 : as_Y0 243 = some ((⟨"java/util/Arrays", "copyOf", "([Ljava/lang/Object;ILjava/lang/Class;)[Ljava/lang/Object;"⟩ : MethodName), prog_47_method_120_code, 4, (some (.array (.object "java/lang/Object")) : Option FieldType), []) := rfl
theorem mk243 : as_mok ⟨"java/util/Arrays", "copyOf", "([Ljava/lang/Object;ILjava/lang/Class;)[Ljava/lang/Object;"⟩ 3 4 := ⟨⟨by decide, by decide, by decide +kernel⟩, by decide⟩
abbrev dr244 : as_D := ((⟨"java/lang/String", "length", "()I"⟩ : MethodName), prog_37_method_54_code, 1, (some (.int) : Option FieldType), [])
theorem yk244 : as_Y0 244 = some ((⟨"java/lang/String", "length", "()I"⟩ : MethodName), prog_37_method_54_code, 1, (some (.int) : Option FieldType), []) := rfl
theorem mk244 : as_mok ⟨"java/lang/String", "length", "()I"⟩ 0 1 := ⟨⟨by decide, by decide, by decide +kernel⟩, by decide⟩
abbrev dr245 : as_D := ((⟨"java/lang/String", "charAt", "(I)C"⟩ : MethodName), prog_37_method_56_code, 2, (some (.char) : Option FieldType), [])
theorem yk245 : as_Y0 245 = some ((⟨"java/lang/String", "charAt", "(I)C"⟩ : MethodName), prog_37_method_56_code, 2, (some (.char) : Option FieldType), []) := rfl
theorem mk245 : as_mok ⟨"java/lang/String", "charAt", "(I)C"⟩ 1 2 := ⟨⟨by decide, by decide, by decide +kernel⟩, by decide⟩
abbrev dr246 : as_D := ((⟨"java/lang/String", "isLatin1", "()Z"⟩ : MethodName), prog_37_method_154_code, 1, (some (.boolean) : Option FieldType), [])
theorem yk246 : as_Y0 246 = some ((⟨"java/lang/String", "isLatin1", "()Z"⟩ : MethodName), prog_37_method_154_code, 1, (some (.boolean) : Option FieldType), []) := rfl
theorem mk246 : as_mok ⟨"java/lang/String", "isLatin1", "()Z"⟩ 0 1 := ⟨⟨by decide, by decide, by decide +kernel⟩, by decide⟩
abbrev dr247 : as_D := ((⟨"java/lang/String", "coder", "()B"⟩ : MethodName), prog_37_method_152_code, 1, (some (.byte) : Option FieldType), [])
theorem yk247 : as_Y0 247 = some ((⟨"java/lang/String", "coder", "()B"⟩ : MethodName), prog_37_method_152_code, 1, (some (.byte) : Option FieldType), []) := rfl
theorem mk247 : as_mok ⟨"java/lang/String", "coder", "()B"⟩ 0 1 := ⟨⟨by decide, by decide, by decide +kernel⟩, by decide⟩
abbrev dr248 : as_D := ((⟨"java/lang/String", "checkIndex", "(II)V"⟩ : MethodName), prog_37_method_155_code, 2, (none : Option FieldType), [])
theorem yk248 : as_Y0 248 = some ((⟨"java/lang/String", "checkIndex", "(II)V"⟩ : MethodName), prog_37_method_155_code, 2, (none : Option FieldType), []) := rfl
theorem mk248 : as_mok ⟨"java/lang/String", "checkIndex", "(II)V"⟩ 2 2 := ⟨⟨by decide, by decide, by decide +kernel⟩, by decide⟩
abbrev dr249 : as_D := ((⟨"java/lang/StringLatin1", "charAt", "([BI)C"⟩ : MethodName), prog_38_method_2_code, 2, (some (.char) : Option FieldType), [])
theorem yk249 : as_Y0 249 = some ((⟨"java/lang/StringLatin1", "charAt", "([BI)C"⟩ : MethodName), prog_38_method_2_code, 2, (some (.char) : Option FieldType), []) := rfl
theorem mk249 : as_mok ⟨"java/lang/StringLatin1", "charAt", "([BI)C"⟩ 2 2 := ⟨⟨by decide, by decide, by decide +kernel⟩, by decide⟩
abbrev dr250 : as_D := ((⟨"java/lang/Integer", "bitCount", "(I)I"⟩ : MethodName), prog_33_method_49_code, 1, (some (.int) : Option FieldType), [])
theorem yk250 : as_Y0 250 = some ((⟨"java/lang/Integer", "bitCount", "(I)I"⟩ : MethodName), prog_33_method_49_code, 1, (some (.int) : Option FieldType), []) := rfl
theorem mk250 : as_mok ⟨"java/lang/Integer", "bitCount", "(I)I"⟩ 1 1 := ⟨⟨by decide, by decide, by decide +kernel⟩, by decide⟩
abbrev dr251 : as_D := ((⟨"java/lang/Integer", "numberOfTrailingZeros", "(I)I"⟩ : MethodName), prog_33_method_48_code, 2, (some (.int) : Option FieldType), [])
theorem yk251 : as_Y0 251 = some ((⟨"java/lang/Integer", "numberOfTrailingZeros", "(I)I"⟩ : MethodName), prog_33_method_48_code, 2, (some (.int) : Option FieldType), []) := rfl
theorem mk251 : as_mok ⟨"java/lang/Integer", "numberOfTrailingZeros", "(I)I"⟩ 1 2 := ⟨⟨by decide, by decide, by decide +kernel⟩, by decide⟩
abbrev dr252 : as_D := ((⟨"java/lang/Exception", "<init>", "(Ljava/lang/String;Ljava/lang/Throwable;ZZ)V"⟩ : MethodName), prog_31_method_5_code, 5, (none : Option FieldType), [])
theorem yk252 : as_Y0 252 = some ((⟨"java/lang/Exception", "<init>", "(Ljava/lang/String;Ljava/lang/Throwable;ZZ)V"⟩ : MethodName), prog_31_method_5_code, 5, (none : Option FieldType), []) := rfl
theorem mk252 : as_mok ⟨"java/lang/Exception", "<init>", "(Ljava/lang/String;Ljava/lang/Throwable;ZZ)V"⟩ 4 5 := ⟨⟨by decide, by decide, by decide +kernel⟩, by decide⟩
abbrev dr253 : as_D := ((⟨"java/lang/Throwable", "<init>", "(Ljava/lang/String;Ljava/lang/Throwable;ZZ)V"⟩ : MethodName), prog_41_method_5_code, 5, (none : Option FieldType), [])
theorem yk253 : as_Y0 253 = some ((⟨"java/lang/Throwable", "<init>", "(Ljava/lang/String;Ljava/lang/Throwable;ZZ)V"⟩ : MethodName), prog_41_method_5_code, 5, (none : Option FieldType), []) := rfl
theorem mk253 : as_mok ⟨"java/lang/Throwable", "<init>", "(Ljava/lang/String;Ljava/lang/Throwable;ZZ)V"⟩ 4 5 := ⟨⟨by decide, by decide, by decide +kernel⟩, by decide⟩
theorem apX0 : ∀ a, a < 14 → ∀ b, b < 14 → a ≠ b → (TX0 a).2.1 ≠ (TX0 b).2.1 ∨ ((TX0 a).2.2.2 = true ∧ (TX0 b).2.2.2 = true ∧ (TX0 a).1 ≠ (TX0 b).1) := by decide +kernel
theorem dfX0 : ∀ j, j < 14 → defaultValue (tyX0 j) = vp_V [.null, .null, .null, .null, .null, .int 0, .int 0, .int 0, .null, .int 0, .null, .null, .null, .null] j := fun j hj => match j, hj with
  | 0, _ => rfl
  | 1, _ => rfl
  | 2, _ => rfl
  | 3, _ => rfl
  | 4, _ => rfl
  | 5, _ => rfl
  | 6, _ => rfl
  | 7, _ => rfl
  | 8, _ => rfl
  | 9, _ => rfl
  | 10, _ => rfl
  | 11, _ => rfl
  | 12, _ => rfl
  | 13, _ => rfl
  | n + 14, h => absurd h (by omega)
theorem apX1 : ∀ a, a < 6 → ∀ b, b < 6 → a ≠ b → (TX1 a).2.1 ≠ (TX1 b).2.1 ∨ ((TX1 a).2.2.2 = true ∧ (TX1 b).2.2.2 = true ∧ (TX1 a).1 ≠ (TX1 b).1) := by decide +kernel
theorem dfX1 : ∀ j, j < 6 → defaultValue (tyX1 j) = vp_V [.null, .null, .null, .null, .int 0, .int 0] j := fun j hj => match j, hj with
  | 0, _ => rfl
  | 1, _ => rfl
  | 2, _ => rfl
  | 3, _ => rfl
  | 4, _ => rfl
  | 5, _ => rfl
  | n + 6, h => absurd h (by omega)
theorem apX2 : ∀ a, a < 2 → ∀ b, b < 2 → a ≠ b → (TX2 a).2.1 ≠ (TX2 b).2.1 ∨ ((TX2 a).2.2.2 = true ∧ (TX2 b).2.2.2 = true ∧ (TX2 a).1 ≠ (TX2 b).1) := by decide +kernel
theorem dfX2 : ∀ j, j < 2 → defaultValue (tyX2 j) = vp_V [.null, .int 0] j := fun j hj => match j, hj with
  | 0, _ => rfl
  | 1, _ => rfl
  | n + 2, h => absurd h (by omega)
theorem apX3 : ∀ a, a < 1 → ∀ b, b < 1 → a ≠ b → (TX3 a).2.1 ≠ (TX3 b).2.1 ∨ ((TX3 a).2.2.2 = true ∧ (TX3 b).2.2.2 = true ∧ (TX3 a).1 ≠ (TX3 b).1) := by decide +kernel
theorem dfX3 : ∀ j, j < 1 → defaultValue (tyX3 j) = vp_V [.null] j := fun j hj => match j, hj with
  | 0, _ => rfl
  | n + 1, h => absurd h (by omega)
theorem apX4 : ∀ a, a < 6 → ∀ b, b < 6 → a ≠ b → (TX4 a).2.1 ≠ (TX4 b).2.1 ∨ ((TX4 a).2.2.2 = true ∧ (TX4 b).2.2.2 = true ∧ (TX4 a).1 ≠ (TX4 b).1) := by decide +kernel
theorem dfX4 : ∀ j, j < 6 → defaultValue (tyX4 j) = vp_V [.null, .null, .null, .int 0, .int 0, .null] j := fun j hj => match j, hj with
  | 0, _ => rfl
  | 1, _ => rfl
  | 2, _ => rfl
  | 3, _ => rfl
  | 4, _ => rfl
  | 5, _ => rfl
  | n + 6, h => absurd h (by omega)
theorem apX5 : ∀ a, a < 39 → ∀ b, b < 39 → a ≠ b → (TX5 a).2.1 ≠ (TX5 b).2.1 ∨ ((TX5 a).2.2.2 = true ∧ (TX5 b).2.2.2 = true ∧ (TX5 a).1 ≠ (TX5 b).1) := by decide +kernel
theorem dfX5 : ∀ j, j < 39 → defaultValue (tyX5 j) = vp_V [.int 0, .int 0, .null, .null, .null, .null, .int 0, .null, .null, .null, .int 0, .int 0, .null, .null, .null, .int 0, .int 0, .int 0, .int 0, .int 0, .int 0, .int 0, .null, .null, .null, .null, .null, .int 0, .null, .null, .null, .null, .int 0, .int 0, .int 0, .null, .null, .int 0, .int 0] j := fun j hj => match j, hj with
  | 0, _ => rfl
  | 1, _ => rfl
  | 2, _ => rfl
  | 3, _ => rfl
  | 4, _ => rfl
  | 5, _ => rfl
  | 6, _ => rfl
  | 7, _ => rfl
  | 8, _ => rfl
  | 9, _ => rfl
  | 10, _ => rfl
  | 11, _ => rfl
  | 12, _ => rfl
  | 13, _ => rfl
  | 14, _ => rfl
  | 15, _ => rfl
  | 16, _ => rfl
  | 17, _ => rfl
  | 18, _ => rfl
  | 19, _ => rfl
  | 20, _ => rfl
  | 21, _ => rfl
  | 22, _ => rfl
  | 23, _ => rfl
  | 24, _ => rfl
  | 25, _ => rfl
  | 26, _ => rfl
  | 27, _ => rfl
  | 28, _ => rfl
  | 29, _ => rfl
  | 30, _ => rfl
  | 31, _ => rfl
  | 32, _ => rfl
  | 33, _ => rfl
  | 34, _ => rfl
  | 35, _ => rfl
  | 36, _ => rfl
  | 37, _ => rfl
  | 38, _ => rfl
  | n + 39, h => absurd h (by omega)
theorem apX6 : ∀ a, a < 5 → ∀ b, b < 5 → a ≠ b → (TX6 a).2.1 ≠ (TX6 b).2.1 ∨ ((TX6 a).2.2.2 = true ∧ (TX6 b).2.2.2 = true ∧ (TX6 a).1 ≠ (TX6 b).1) := by decide +kernel
theorem dfX6 : ∀ j, j < 5 → defaultValue (tyX6 j) = vp_V [.int 0, .int 0, .int 0, .int 0, .null] j := fun j hj => match j, hj with
  | 0, _ => rfl
  | 1, _ => rfl
  | 2, _ => rfl
  | 3, _ => rfl
  | 4, _ => rfl
  | n + 5, h => absurd h (by omega)
theorem apX7 : ∀ a, a < 9 → ∀ b, b < 9 → a ≠ b → (TX7 a).2.1 ≠ (TX7 b).2.1 ∨ ((TX7 a).2.2.2 = true ∧ (TX7 b).2.2.2 = true ∧ (TX7 a).1 ≠ (TX7 b).1) := by decide +kernel
theorem dfX7 : ∀ j, j < 9 → defaultValue (tyX7 j) = vp_V [.int 0, .int 0, .int 0, .int 0, .int 0, .null, .null, .null, .null] j := fun j hj => match j, hj with
  | 0, _ => rfl
  | 1, _ => rfl
  | 2, _ => rfl
  | 3, _ => rfl
  | 4, _ => rfl
  | 5, _ => rfl
  | 6, _ => rfl
  | 7, _ => rfl
  | 8, _ => rfl
  | n + 9, h => absurd h (by omega)
theorem apX8 : ∀ a, a < 7 → ∀ b, b < 7 → a ≠ b → (TX8 a).2.1 ≠ (TX8 b).2.1 ∨ ((TX8 a).2.2.2 = true ∧ (TX8 b).2.2.2 = true ∧ (TX8 a).1 ≠ (TX8 b).1) := by decide +kernel
theorem dfX8 : ∀ j, j < 7 → defaultValue (tyX8 j) = vp_V [.null, .null, .null, .null, .null, .int 0, .int 0] j := fun j hj => match j, hj with
  | 0, _ => rfl
  | 1, _ => rfl
  | 2, _ => rfl
  | 3, _ => rfl
  | 4, _ => rfl
  | 5, _ => rfl
  | 6, _ => rfl
  | n + 7, h => absurd h (by omega)
theorem apX10 : ∀ a, a < 1 → ∀ b, b < 1 → a ≠ b → (TX10 a).2.1 ≠ (TX10 b).2.1 ∨ ((TX10 a).2.2.2 = true ∧ (TX10 b).2.2.2 = true ∧ (TX10 a).1 ≠ (TX10 b).1) := by decide +kernel
theorem dfX10 : ∀ j, j < 1 → defaultValue (tyX10 j) = vp_V [.int 0] j := fun j hj => match j, hj with
  | 0, _ => rfl
  | n + 1, h => absurd h (by omega)
theorem apX11 : ∀ a, a < 1 → ∀ b, b < 1 → a ≠ b → (TX11 a).2.1 ≠ (TX11 b).2.1 ∨ ((TX11 a).2.2.2 = true ∧ (TX11 b).2.2.2 = true ∧ (TX11 a).1 ≠ (TX11 b).1) := by decide +kernel
theorem dfX11 : ∀ j, j < 1 → defaultValue (tyX11 j) = vp_V [.int 0] j := fun j hj => match j, hj with
  | 0, _ => rfl
  | n + 1, h => absurd h (by omega)
theorem apX12 : ∀ a, a < 3 → ∀ b, b < 3 → a ≠ b → (TX12 a).2.1 ≠ (TX12 b).2.1 ∨ ((TX12 a).2.2.2 = true ∧ (TX12 b).2.2.2 = true ∧ (TX12 a).1 ≠ (TX12 b).1) := by decide +kernel
theorem dfX12 : ∀ j, j < 3 → defaultValue (tyX12 j) = vp_V [.null, .null, .int 0] j := fun j hj => match j, hj with
  | 0, _ => rfl
  | 1, _ => rfl
  | 2, _ => rfl
  | n + 3, h => absurd h (by omega)
theorem apX14 : ∀ a, a < 3 → ∀ b, b < 3 → a ≠ b → (TX14 a).2.1 ≠ (TX14 b).2.1 ∨ ((TX14 a).2.2.2 = true ∧ (TX14 b).2.2.2 = true ∧ (TX14 a).1 ≠ (TX14 b).1) := by decide +kernel
theorem dfX14 : ∀ j, j < 3 → defaultValue (tyX14 j) = vp_V [.null, .null, .int 0] j := fun j hj => match j, hj with
  | 0, _ => rfl
  | 1, _ => rfl
  | 2, _ => rfl
  | n + 3, h => absurd h (by omega)
theorem apX15 : ∀ a, a < 1 → ∀ b, b < 1 → a ≠ b → (TX15 a).2.1 ≠ (TX15 b).2.1 ∨ ((TX15 a).2.2.2 = true ∧ (TX15 b).2.2.2 = true ∧ (TX15 a).1 ≠ (TX15 b).1) := by decide +kernel
theorem dfX15 : ∀ j, j < 1 → defaultValue (tyX15 j) = vp_V [.null] j := fun j hj => match j, hj with
  | 0, _ => rfl
  | n + 1, h => absurd h (by omega)
theorem apX16 : ∀ a, a < 2 → ∀ b, b < 2 → a ≠ b → (TX16 a).2.1 ≠ (TX16 b).2.1 ∨ ((TX16 a).2.2.2 = true ∧ (TX16 b).2.2.2 = true ∧ (TX16 a).1 ≠ (TX16 b).1) := by decide +kernel
theorem dfX16 : ∀ j, j < 2 → defaultValue (tyX16 j) = vp_V [.int 0, .null] j := fun j hj => match j, hj with
  | 0, _ => rfl
  | 1, _ => rfl
  | n + 2, h => absurd h (by omega)
theorem apX17 : ∀ a, a < 4 → ∀ b, b < 4 → a ≠ b → (TX17 a).2.1 ≠ (TX17 b).2.1 ∨ ((TX17 a).2.2.2 = true ∧ (TX17 b).2.2.2 = true ∧ (TX17 a).1 ≠ (TX17 b).1) := by decide +kernel
theorem dfX17 : ∀ j, j < 4 → defaultValue (tyX17 j) = vp_V [.int 0, .null, .null, .long 0] j := fun j hj => match j, hj with
  | 0, _ => rfl
  | 1, _ => rfl
  | 2, _ => rfl
  | 3, _ => rfl
  | n + 4, h => absurd h (by omega)
theorem apX19 : ∀ a, a < 5 → ∀ b, b < 5 → a ≠ b → (TX19 a).2.1 ≠ (TX19 b).2.1 ∨ ((TX19 a).2.2.2 = true ∧ (TX19 b).2.2.2 = true ∧ (TX19 a).1 ≠ (TX19 b).1) := by decide +kernel
theorem dfX19 : ∀ j, j < 5 → defaultValue (tyX19 j) = vp_V [.null, .int 0, .int 0, .null, .null] j := fun j hj => match j, hj with
  | 0, _ => rfl
  | 1, _ => rfl
  | 2, _ => rfl
  | 3, _ => rfl
  | 4, _ => rfl
  | n + 5, h => absurd h (by omega)
theorem apX20 : ∀ a, a < 5 → ∀ b, b < 5 → a ≠ b → (TX20 a).2.1 ≠ (TX20 b).2.1 ∨ ((TX20 a).2.2.2 = true ∧ (TX20 b).2.2.2 = true ∧ (TX20 a).1 ≠ (TX20 b).1) := by decide +kernel
theorem dfX20 : ∀ j, j < 5 → defaultValue (tyX20 j) = vp_V [.null, .int 0, .int 0, .null, .null] j := fun j hj => match j, hj with
  | 0, _ => rfl
  | 1, _ => rfl
  | 2, _ => rfl
  | 3, _ => rfl
  | 4, _ => rfl
  | n + 5, h => absurd h (by omega)
theorem apX21 : ∀ a, a < 5 → ∀ b, b < 5 → a ≠ b → (TX21 a).2.1 ≠ (TX21 b).2.1 ∨ ((TX21 a).2.2.2 = true ∧ (TX21 b).2.2.2 = true ∧ (TX21 a).1 ≠ (TX21 b).1) := by decide +kernel
theorem dfX21 : ∀ j, j < 5 → defaultValue (tyX21 j) = vp_V [.null, .int 0, .int 0, .null, .null] j := fun j hj => match j, hj with
  | 0, _ => rfl
  | 1, _ => rfl
  | 2, _ => rfl
  | 3, _ => rfl
  | 4, _ => rfl
  | n + 5, h => absurd h (by omega)
theorem apX22 : ∀ a, a < 5 → ∀ b, b < 5 → a ≠ b → (TX22 a).2.1 ≠ (TX22 b).2.1 ∨ ((TX22 a).2.2.2 = true ∧ (TX22 b).2.2.2 = true ∧ (TX22 a).1 ≠ (TX22 b).1) := by decide +kernel
theorem dfX22 : ∀ j, j < 5 → defaultValue (tyX22 j) = vp_V [.null, .int 0, .int 0, .null, .null] j := fun j hj => match j, hj with
  | 0, _ => rfl
  | 1, _ => rfl
  | 2, _ => rfl
  | 3, _ => rfl
  | 4, _ => rfl
  | n + 5, h => absurd h (by omega)
theorem apX23 : ∀ a, a < 1 → ∀ b, b < 1 → a ≠ b → (TX23 a).2.1 ≠ (TX23 b).2.1 ∨ ((TX23 a).2.2.2 = true ∧ (TX23 b).2.2.2 = true ∧ (TX23 a).1 ≠ (TX23 b).1) := by decide +kernel
theorem dfX23 : ∀ j, j < 1 → defaultValue (tyX23 j) = vp_V [.long 0] j := fun j hj => match j, hj with
  | 0, _ => rfl
  | n + 1, h => absurd h (by omega)
theorem apJ2 : ∀ a, a < 3 → ∀ b, b < 3 → a ≠ b → (TJ2 a).2.1 ≠ (TJ2 b).2.1 ∨ ((TJ2 a).2.2.2 = true ∧ (TJ2 b).2.2.2 = true ∧ (TJ2 a).1 ≠ (TJ2 b).1) := by decide +kernel
theorem dfJ2 : ∀ j, j < 3 → defaultValue (tyJ2 j) = vp_V [.int 0, .null, .int 0] j := fun j hj => match j, hj with
  | 0, _ => rfl
  | 1, _ => rfl
  | 2, _ => rfl
  | n + 3, h => absurd h (by omega)
section ASN
variable {yn : MethodName} {cc : ByteArray} {mx : Nat} {rt : Option FieldType} {hh : List (Nat × Nat × Nat × Nat)} {Y : Nat → Option as_D} {pc : Nat}
theorem as_na0 (hd : decode cc pc = .ok (.newarray .int, 2)) : as_OK Y yn cc mx rt hh pc (am_na 0 (pc + 2)) := as_newa (ty := .int) rfl q199 (fun _ => rfl) (fun _ _ => rfl) (fun _ _ => rfl) (fun _ _ => am_cE_int) (by decide) (by decide) hd
theorem as_na1 (hd : decode cc pc = .ok (.newarray .byte, 2)) : as_OK Y yn cc mx rt hh pc (am_na 1 (pc + 2)) := as_newa (ty := .byte) rfl q263 (fun _ => rfl) (fun _ _ => rfl) (fun _ _ => rfl) (fun _ _ => am_cE_int) (by decide) (by decide) hd
theorem as_na2 (hd : decode cc pc = .ok (.newarray .boolean, 2)) : as_OK Y yn cc mx rt hh pc (am_na 2 (pc + 2)) := as_newa (ty := .boolean) rfl q318 (fun _ => rfl) (fun _ _ => rfl) (fun _ _ => rfl) (fun _ _ => am_cE_int) (by decide) (by decide) hd
theorem as_na3 (hd : decode cc pc = .ok (.newarray .long, 2)) : as_OK Y yn cc mx rt hh pc (am_na 3 (pc + 2)) := as_newa (ty := .long) rfl q221 (fun _ => rfl) (fun _ _ => rfl) (fun _ _ => rfl) (fun _ _ => am_cE_long) (by decide) (by decide) hd
theorem as_ast4 (hd : decode cc pc = .ok (.aastore, 1)) : as_OK Y yn cc mx rt hh pc (am_xast 4 [6, 3] (pc + 1)) := as_aast (E := "java/lang/Object") (fun _ => rfl) (by decide) (as_n1 ⟨by decide, (RX6, TX6, 5), rfl, (Or.inr (as_mem 27 rfl))⟩ (as_n1 ⟨by decide, (RX3, TX3, 1), rfl, (Or.inr (as_mem 24 rfl))⟩ as_n0)) hd
theorem as_ast5 (hd : decode cc pc = .ok (.aastore, 1)) : as_OK Y yn cc mx rt hh pc (am_xast 5 [1] (pc + 1)) := as_aast (E := "FiveTouch$Yard") (fun _ => rfl) (by decide) (as_n1 ⟨by decide, (RX1, TX1, 6), rfl, (Or.inl rfl)⟩ as_n0) hd
theorem as_ast6 (hd : decode cc pc = .ok (.aastore, 1)) : as_OK Y yn cc mx rt hh pc (am_xast 6 [17] (pc + 1)) := as_aast (E := "FiveTouch$Clause") (fun _ => rfl) (by decide) (as_n1 ⟨by decide, (RX17, TX17, 4), rfl, (Or.inl rfl)⟩ as_n0) hd
theorem as_ast7 (hd : decode cc pc = .ok (.aastore, 1)) : as_OK Y yn cc mx rt hh pc (am_xast 7 [14, 15, 16] (pc + 1)) := as_aast (E := "FiveTouch$Test") (fun _ => rfl) (by decide) (as_n1 ⟨by decide, (RX14, TX14, 3), rfl, (Or.inr (as_mem 12 rfl))⟩ (as_n1 ⟨by decide, (RX15, TX15, 1), rfl, (Or.inr (as_mem 14 rfl))⟩ (as_n1 ⟨by decide, (RX16, TX16, 2), rfl, (Or.inr (as_mem 16 rfl))⟩ as_n0))) hd
theorem as_fit0 : ∀ x, am_nar 0 x = x → fits .int (.int x) = true := fun _ _ => rfl
theorem as_fit1 : ∀ x, am_nar 1 x = x → fits .byte (.int x) = true := fun x h => by
  have h2 : vp_nar .byte x = x := h
  have h3 : x.toInt8.toInt32 = x := by simpa [vp_nar, narrow] using h2
  have hy : ∀ y : Int8, (-128 : Int32) ≤ y.toInt32 ∧ y.toInt32 ≤ 127 := fun y => by
    have b1 := Int8.le_toInt y
    have b2 := Int8.toInt_lt y
    have e1 : ((-128 : Int32)).toInt = -128 := by decide
    have e2 : ((127 : Int32)).toInt = 127 := by decide
    refine ⟨Int32.le_iff_toInt_le.mpr ?_, Int32.le_iff_toInt_le.mpr ?_⟩
    · rw [Int8.toInt_toInt32, e1]; omega
    · rw [Int8.toInt_toInt32, e2]; omega
  have h4 := hy x.toInt8
  rw [h3] at h4
  simpa [fits] using h4
theorem as_cpi0 {own : String} {index : Nat} (ho : own = yn.cls) (hlink : Cond.methodLink own index arraycopyName ∈ lw_all) (hd : decode cc pc = .ok (.invokestatic index, 3)) : as_OK Y yn cc mx rt hh pc (am_cpyi 0 (pc + 3)) := as_cpyi (ty := .int) ho (fun _ => rfl) (by decide) rfl as_fit0 hlink q495 q494 q101 hd
theorem as_cpi1 {own : String} {index : Nat} (ho : own = yn.cls) (hlink : Cond.methodLink own index arraycopyName ∈ lw_all) (hd : decode cc pc = .ok (.invokestatic index, 3)) : as_OK Y yn cc mx rt hh pc (am_cpyi 1 (pc + 3)) := as_cpyi (ty := .byte) ho (fun _ => rfl) (by decide) rfl as_fit1 hlink q495 q494 q101 hd
theorem as_cpr4 {own : String} {index : Nat} (ho : own = yn.cls) (hlink : Cond.methodLink own index arraycopyName ∈ lw_all) (hd : decode cc pc = .ok (.invokestatic index, 3)) : as_OK Y yn cc mx rt hh pc (am_cpyr 4 [6, 3] (pc + 3)) := as_cpyr (E := "java/lang/Object") ho (fun _ => rfl) (by decide) (as_n1 ⟨by decide, (RX6, TX6, 5), rfl, (Or.inr (as_mem 27 rfl))⟩ (as_n1 ⟨by decide, (RX3, TX3, 1), rfl, (Or.inr (as_mem 24 rfl))⟩ as_n0)) hlink q495 q494 q101 hd
theorem as_cpr6 {own : String} {index : Nat} (ho : own = yn.cls) (hlink : Cond.methodLink own index arraycopyName ∈ lw_all) (hd : decode cc pc = .ok (.invokestatic index, 3)) : as_OK Y yn cc mx rt hh pc (am_cpyr 6 [17] (pc + 3)) := as_cpyr (E := "FiveTouch$Clause") ho (fun _ => rfl) (by decide) (as_n1 ⟨by decide, (RX17, TX17, 4), rfl, (Or.inl rfl)⟩ as_n0) hlink q495 q494 q101 hd
theorem as_cpr7 {own : String} {index : Nat} (ho : own = yn.cls) (hlink : Cond.methodLink own index arraycopyName ∈ lw_all) (hd : decode cc pc = .ok (.invokestatic index, 3)) : as_OK Y yn cc mx rt hh pc (am_cpyr 7 [14, 15, 16] (pc + 3)) := as_cpyr (E := "FiveTouch$Test") ho (fun _ => rfl) (by decide) (as_n1 ⟨by decide, (RX14, TX14, 3), rfl, (Or.inr (as_mem 12 rfl))⟩ (as_n1 ⟨by decide, (RX15, TX15, 1), rfl, (Or.inr (as_mem 14 rfl))⟩ (as_n1 ⟨by decide, (RX16, TX16, 2), rfl, (Or.inr (as_mem 16 rfl))⟩ as_n0))) hlink q495 q494 q101 hd
end ASN
def as_g (yn : MethodName) (cc : ByteArray) (mx : Nat) (rt : Option FieldType) (hh : List (Nat × Nat × Nat × Nat)) (pc : Nat) (f : am_S) : Prop := am_ok f ∧ as_OK as_Y0 yn cc mx rt hh pc f
def lk_A (P : Nat → am_S → Prop) (t : Nat → Option am_S) : Prop := ∀ pc f, t pc = some f → P pc f
theorem lk_n {P : Nat → am_S → Prop} : lk_A P (am_lk []) := fun _ _ h => nomatch h
theorem lk_c {P : Nat → am_S → Prop} {k : Nat} {s : am_S} {l : List (Nat × am_S)} (h : P k s) (hl : lk_A P (am_lk l)) : lk_A P (am_lk ((k, s) :: l)) := fun pc f hf => by
  rw [am_lk] at hf
  split at hf
  · rename_i e
    cases hf
    rw [← e]
    exact h
  · exact hl pc f hf
theorem lk_i {P : Nat → am_S → Prop} {k : Nat} {a b : Nat → Option am_S} (ha : lk_A P a) (hb : lk_A P b) : lk_A P (fun pc => if pc < k then a pc else b pc) := fun pc f hf => by
  have hf : (if pc < k then a pc else b pc) = some f := hf
  split at hf
  · exact ha pc f hf
  · exact hb pc f hf
theorem gI {yn : MethodName} {cc : ByteArray} {mx : Nat} {rt : Option FieldType} {hh : List (Nat × Nat × Nat × Nat)} {pc : Nat} {f : am_S} (h1 : am_SC f) (h2 : am_MN f) (h3 : as_OK as_Y0 yn cc mx rt hh pc f) : as_g yn cc mx rt hh pc f := ⟨⟨h1, h2⟩, h3⟩
