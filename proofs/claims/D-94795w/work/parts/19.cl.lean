/-! AM: references stay within the memory -/
def am_cv (N : Nat) (v : Value) : Prop := ∀ a, v = .ref a → a < N
def am_cE (N : Nat) (e : am_E) : Prop := match e with
  | .inl x => ∀ (f : Nat → Option Nat), x.2.2 = .inr (.inr (.inr (.inr f))) → ∀ k b, f k = some b → b < N
  | .inr x => ∀ v ∈ x.2, am_cv N v
def am_cM (M : am_M) : Prop := (∀ a e, am_at M a = some e → am_cE (am_len M) e) ∧ (∀ v ∈ M.2.2.1, am_cv (am_len M) v) ∧ 100 ≤ am_len M
def am_Cl (L : am_L) (S : List Value) (M : am_M) : Prop := am_cM M ∧ (∀ (k : Nat) (v : Value), L[k]? = some (some v) → am_cv (am_len M) v) ∧ ∀ v ∈ S, am_cv (am_len M) v
/-- a step keeps them so -/
def am_SP (L : am_L) (M : am_M) (x : Option am_R) : Prop := match x with
  | none => True
  | some (.inl (_, L', S', M')) => am_Cl L' S' M' ∧ am_len M ≤ am_len M'
  | some (.inr (.inl (.inl v, M'))) => am_cM M' ∧ (∀ w, v = some w → am_cv (am_len M') w) ∧ am_len M ≤ am_len M'
  | some (.inr (.inl (.inr q, M'))) => am_cM M' ∧ q < am_len M' ∧ am_len M ≤ am_len M'
  | some (.inr (.inr (_, av, _, _, L', rest, M'))) => L' = L ∧ M' = M ∧ (∀ v ∈ av, am_cv (am_len M) v) ∧ ∀ v ∈ rest, am_cv (am_len M) v
def am_SC (f : am_S) : Prop := ∀ L S M, am_Cl L S M → am_SP L M (f L S M)
theorem am_cv.mono {N N' : Nat} {v : Value} (h : N ≤ N') (hv : am_cv N v) : am_cv N' v := fun a e => Nat.lt_of_lt_of_le (hv a e) h
theorem am_cE.mono {N N' : Nat} {e : am_E} (h : N ≤ N') (he : am_cE N e) : am_cE N' e := by
  cases e with
  | inl x => exact fun f hf k b hb => Nat.lt_of_lt_of_le (he f hf k b hb) h
  | inr x => exact fun v hv => (he v hv).mono h
theorem am_cv_int {N : Nat} {x : Int32} : am_cv N (.int x) := fun a e => by cases e
theorem am_cv_long {N : Nat} {x : Int64} : am_cv N (.long x) := fun a e => by cases e
theorem am_cv_null {N : Nat} : am_cv N .null := fun a e => by cases e
theorem am_cv_ref {N a : Nat} (h : a < N) : am_cv N (.ref a) := fun b e => by cases e; exact h
theorem am_cv_rf {N : Nat} {r : Option Nat} (h : ∀ b, r = some b → b < N) : am_cv N (va_rf r) := fun a e => by
  cases r with
  | none => cases e
  | some b => cases e; exact h _ rfl
theorem am_cM.put {M : am_M} {a : Nat} {e : am_E} (h : am_cM M) (he : am_cE (am_len M) e) : am_cM (am_put M a e) := by
  refine ⟨fun b x hb => ?_, ?_, ?_⟩
  · rw [am_len_put]
    by_cases hab : a = b
    · subst hab
      by_cases hl : a < M.2.2.2.length
      · have : am_at (am_put M a e) a = some e := by simp [am_at, am_put, hl]
        rw [this] at hb
        cases hb
        exact he
      · have : am_at (am_put M a e) a = none := by simp [am_at, am_put]; omega
        rw [this] at hb
        cases hb
    · rw [am_at_put_ne hab] at hb
      exact h.1 b x hb
  · rw [am_len_put]; exact h.2.1
  · rw [am_len_put]; exact h.2.2
theorem am_cM.new {M : am_M} {n : Nat} {e : am_E} (h : am_cM M) (he : am_cE (am_len M + 1) e) : am_cM (am_new M n e) := by
  refine ⟨fun b x hb => ?_, ?_, ?_⟩
  · rw [am_len_new]
    by_cases hlt : b < am_len M
    · rw [am_at_new_old hlt] at hb
      exact (h.1 b x hb).mono (Nat.le_succ _)
    · have h1 := am_at_lt hb
      rw [am_len_new] at h1
      have h2 : b = am_len M := by omega
      subst h2
      rw [am_at_new_self] at hb
      cases hb
      exact he
  · rw [am_len_new]; exact fun v hv => (h.2.1 v hv).mono (Nat.le_succ _)
  · rw [am_len_new]; exact Nat.le_succ_of_le h.2.2
theorem am_Cl.set {L : am_L} {S S' : List Value} {M : am_M} {k : Nat} {o : Option Value} (h : am_Cl L S M) (hs : ∀ v ∈ S', am_cv (am_len M) v) (ho : ∀ v, o = some v → am_cv (am_len M) v) : am_Cl (L.set k o) S' M := by
  refine ⟨h.1, fun j v hj => ?_, hs⟩
  by_cases e : k = j
  · subst e
    by_cases hl : k < L.length
    · rw [List.getElem?_set_self hl] at hj
      exact ho v (Option.some.inj hj)
    · rw [List.getElem?_eq_none (by rw [List.length_set]; omega)] at hj
      cases hj
  · rw [List.getElem?_set_ne e] at hj
    exact h.2.1 j v hj
theorem am_fgc {M : am_M} {cs : List Nat} {a k : Nat} {v : Value} (hM : am_cM M) (h : am_fg M cs a k = some v) : am_cv (am_len M) v := by
  unfold am_fg at h
  split at h
  · rename_i c fs he
    split at h
    · exact hM.1 a _ he v (List.mem_of_getElem? h)
    · cases h
  · cases h
theorem am_agc {M : am_M} {ts : List Nat} {a : Nat} {i : Int32} {v : Value} (hM : am_cM M) (h : am_ag M ts a i = some v) : am_cv (am_len M) v := by
  unfold am_ag at h
  split at h
  · split at h
    · cases h; exact am_cv_int
    · cases h
  · split at h
    · cases h; exact am_cv_long
    · cases h
  · rename_i t n f he
    split at h
    · cases h; exact am_cv_rf (fun b hb => hM.1 a _ he f rfl _ b hb)
    · cases h
  · cases h
theorem am_cE_int {N t n : Nat} {f : Nat → Int32} : am_cE N (.inl (t, n, .inl f)) := fun g hg => by cases hg
theorem am_cE_long {N t n : Nat} {f : Nat → Int64} : am_cE N (.inl (t, n, .inr (.inl f))) := fun g hg => by cases hg
theorem am_fpc {M M' : am_M} {cs : List Nat} {a k : Nat} {v : Value} (hM : am_cM M) (hv : am_cv (am_len M) v) (h : am_fp M cs a k v = some M') : am_cM M' ∧ am_len M' = am_len M := by
  unfold am_fp at h
  split at h
  · rename_i c fs he
    split at h
    · cases h
      refine ⟨hM.put (fun w hw => ?_), am_len_put⟩
      rcases List.mem_or_eq_of_mem_set hw with h1 | h1
      · exact hM.1 a _ he w h1
      · rw [h1]; exact hv
    · cases h
  · cases h
theorem am_apc {M M' : am_M} {ts : List Nat} {a : Nat} {i x : Int32} (hM : am_cM M) (h : am_ap M ts a i x = some M') : am_cM M' ∧ am_len M' = am_len M := by
  unfold am_ap at h
  split at h
  · split at h
    · cases h; exact ⟨hM.put am_cE_int, am_len_put⟩
    · cases h
  · cases h
theorem am_alpc {M M' : am_M} {a : Nat} {i : Int32} {x : Int64} (hM : am_cM M) (h : am_alp M a i x = some M') : am_cM M' ∧ am_len M' = am_len M := by
  unfold am_alp at h
  split at h
  · split at h
    · cases h; exact ⟨hM.put am_cE_long, am_len_put⟩
    · cases h
  · cases h
theorem am_arpc {M M' : am_M} {t a v : Nat} {cs : List Nat} {i : Int32} (hM : am_cM M) (hv : v < am_len M) (h : am_arp M t cs a i v = some M') : am_cM M' ∧ am_len M' = am_len M := by
  unfold am_arp at h
  split at h
  · rename_i t' n f he
    split at h
    · cases h
      refine ⟨hM.put (fun g hg k b hb => ?_), am_len_put⟩
      cases hg
      unfold va_up at hb
      split at hb
      · cases hb; exact hv
      · exact hM.1 a _ he f rfl k b hb
    · cases h
  · cases h
theorem am_cpic {M M' : am_M} {t a0 a1 : Nat} {sp dp n : Int32} (hM : am_cM M) (h : am_cpi M t a0 sp a1 dp n = some M') : am_cM M' ∧ am_len M' = am_len M := by
  unfold am_cpi at h
  split at h
  · split at h
    · cases h; exact ⟨hM.put am_cE_int, am_len_put⟩
    · cases h
  · cases h
theorem am_cprc {M M' : am_M} {t a0 a1 : Nat} {cs : List Nat} {sp dp n : Int32} (hM : am_cM M) (h : am_cpr M t cs a0 sp a1 dp n = some M') : am_cM M' ∧ am_len M' = am_len M := by
  unfold am_cpr at h
  split at h
  · rename_i t1 n0 f t2 n1 g he he2
    split at h
    · cases h
      refine ⟨hM.put (fun g' hg k b hb => ?_), am_len_put⟩
      cases hg
      unfold va_cpy at hb
      split at hb
      · exact hM.1 a0 _ he f rfl _ b hb
      · exact hM.1 a1 _ he2 g rfl k b hb
    · cases h
  · cases h
section AMSC
variable {nxt tgt k t : Nat}
theorem sc_S {L : am_L} {S S' : List Value} {M : am_M} (h : am_Cl L S M) (hs : ∀ v ∈ S', am_cv (am_len M) v) : am_Cl L S' M ∧ am_len M ≤ am_len M := ⟨⟨h.1, h.2.1, hs⟩, Nat.le_refl _⟩
theorem sc_c {N : Nat} {v : Value} {S : List Value} (h : am_cv N v) (hs : ∀ v ∈ S, am_cv N v) : ∀ w ∈ v :: S, am_cv N w := fun w hw => (List.mem_cons.mp hw).elim (fun e => by rw [e]; exact h) (hs w)
theorem sc_t {N : Nat} {v : Value} {S : List Value} (hs : ∀ w ∈ v :: S, am_cv N w) : ∀ w ∈ S, am_cv N w := fun w hw => hs w (List.mem_cons_of_mem _ hw)
theorem sc_h {N : Nat} {v : Value} {S : List Value} (hs : ∀ w ∈ v :: S, am_cv N w) : am_cv N v := hs v List.mem_cons_self
theorem sc_pushi {x : Int32} : am_SC (am_push (.int x) nxt) := fun L S M h => sc_S h (sc_c am_cv_int h.2.2)
theorem sc_pushl {x : Int64} : am_SC (am_push (.long x) nxt) := fun L S M h => sc_S h (sc_c am_cv_long h.2.2)
theorem sc_pushn : am_SC (am_push .null nxt) := fun L S M h => sc_S h (sc_c am_cv_null h.2.2)
theorem sc_pusha {a : Nat} (ha : a < 100) : am_SC (am_push (.ref a) nxt) := fun L S M h => sc_S h (sc_c (am_cv_ref (Nat.lt_of_lt_of_le ha h.1.2.2)) h.2.2)
theorem sc_ild : am_SC (am_ild k nxt) := fun L S M h => by
  unfold am_ild
  split
  · exact sc_S h (sc_c am_cv_int h.2.2)
  · trivial
theorem sc_lld : am_SC (am_lld k nxt) := fun L S M h => by
  unfold am_lld
  split
  · exact sc_S h (sc_c am_cv_long h.2.2)
  · trivial
theorem sc_ald : am_SC (am_ald k nxt) := fun L S M h => by
  unfold am_ald
  split
  · rename_i x hx
    exact sc_S h (sc_c (h.2.1 k _ hx) h.2.2)
  · exact sc_S h (sc_c am_cv_null h.2.2)
  · trivial
theorem sc_sti : am_SC (am_sti k nxt) := fun L S M h => by
  unfold am_sti
  split
  · split
    · exact ⟨h.set (sc_t h.2.2) (fun v hv => by cases hv; exact am_cv_int), Nat.le_refl _⟩
    · trivial
  · trivial
theorem sc_sta : am_SC (am_sta k nxt) := fun L S M h => by
  unfold am_sta
  split
  · split
    · exact ⟨h.set (sc_t h.2.2) (fun v hv => by cases hv; exact sc_h h.2.2), Nat.le_refl _⟩
    · trivial
  · split
    · exact ⟨h.set (sc_t h.2.2) (fun v hv => by cases hv; exact am_cv_null), Nat.le_refl _⟩
    · trivial
  · trivial
theorem sc_lst : am_SC (am_lst k nxt) := fun L S M h => by
  unfold am_lst
  split
  · split
    · exact ⟨(h.set h.2.2 (fun v hv => by cases hv; exact am_cv_long)).set (sc_t h.2.2) (fun v hv => by cases hv), Nat.le_refl _⟩
    · trivial
  · trivial
theorem sc_inc {c : Int32} : am_SC (am_inc k c nxt) := fun L S M h => by
  unfold am_inc
  split
  · split
    · exact ⟨h.set h.2.2 (fun v hv => by cases hv; exact am_cv_int), Nat.le_refl _⟩
    · trivial
  · trivial
theorem sc_bi {f : Int32 → Int32 → Int32} : am_SC (am_bi f nxt) := fun L S M h => by
  unfold am_bi
  split
  · exact sc_S h (sc_c am_cv_int (sc_t (sc_t h.2.2)))
  · trivial
theorem sc_bd {f : Int32 → Int32 → Int32} : am_SC (am_bd f nxt) := fun L S M h => by
  unfold am_bd
  split
  · split
    · trivial
    · exact sc_S h (sc_c am_cv_int (sc_t (sc_t h.2.2)))
  · trivial
theorem sc_ui {f : Int32 → Int32} : am_SC (am_ui f nxt) := fun L S M h => by
  unfold am_ui
  split
  · exact sc_S h (sc_c am_cv_int (sc_t h.2.2))
  · trivial
theorem sc_i2l : am_SC (am_i2l nxt) := fun L S M h => by
  unfold am_i2l
  split
  · exact sc_S h (sc_c am_cv_long (sc_t h.2.2))
  · trivial
theorem sc_l2i : am_SC (am_l2i nxt) := fun L S M h => by
  unfold am_l2i
  split
  · exact sc_S h (sc_c am_cv_int (sc_t h.2.2))
  · trivial
theorem sc_bl {f : Int64 → Int64 → Int64} : am_SC (am_bl f nxt) := fun L S M h => by
  unfold am_bl
  split
  · exact sc_S h (sc_c am_cv_long (sc_t (sc_t h.2.2)))
  · trivial
theorem sc_bld {f : Int64 → Int64 → Int64} : am_SC (am_bld f nxt) := fun L S M h => by
  unfold am_bld
  split
  · split
    · trivial
    · exact sc_S h (sc_c am_cv_long (sc_t (sc_t h.2.2)))
  · trivial
theorem sc_lcmp : am_SC (am_lcmp nxt) := fun L S M h => by
  unfold am_lcmp
  split
  · exact sc_S h (sc_c am_cv_int (sc_t (sc_t h.2.2)))
  · trivial
theorem sc_dup : am_SC (am_dup nxt) := fun L S M h => by
  unfold am_dup
  split
  · split
    · exact sc_S h (sc_c (sc_h h.2.2) h.2.2)
    · trivial
  · trivial
theorem sc_pop : am_SC (am_pop nxt) := fun L S M h => by
  unfold am_pop
  split
  · split
    · exact sc_S h (sc_t h.2.2)
    · trivial
  · trivial
theorem sc_dupx1 : am_SC (am_dupx1 nxt) := fun L S M h => by
  unfold am_dupx1
  split
  · split
    · exact sc_S h (sc_c (sc_h h.2.2) (sc_c (sc_h (sc_t h.2.2)) (sc_c (sc_h h.2.2) (sc_t (sc_t h.2.2)))))
    · trivial
  · trivial
theorem sc_dup2 : am_SC (am_dup2 nxt) := fun L S M h => by
  unfold am_dup2
  split
  · split
    · exact sc_S h (sc_c (sc_h h.2.2) (sc_c (sc_h (sc_t h.2.2)) h.2.2))
    · trivial
  · trivial
theorem sc_if {c : Nat} : am_SC (am_if c tgt nxt) := fun L S M h => by
  unfold am_if
  split
  · split <;> exact sc_S h (sc_t h.2.2)
  · trivial
theorem sc_ic {c : Nat} : am_SC (am_ic c tgt nxt) := fun L S M h => by
  unfold am_ic
  split
  · split <;> exact sc_S h (sc_t (sc_t h.2.2))
  · trivial
theorem sc_go : am_SC (am_go tgt) := fun L S M h => sc_S h h.2.2
theorem sc_nul {a b : Nat} : am_SC (am_nul a b) := fun L S M h => by
  unfold am_nul
  split
  · exact sc_S h (sc_t h.2.2)
  · exact sc_S h (sc_t h.2.2)
  · trivial
theorem sc_ac {a b : Nat} : am_SC (am_ac a b) := fun L S M h => by
  unfold am_ac
  split
  · split
    · exact sc_S h (sc_t (sc_t h.2.2))
    · split
      · exact sc_S h (sc_t (sc_t h.2.2))
      · trivial
  · trivial
theorem sc_tsw {lo : Int} {ts : List Nat} {d : Nat} : am_SC (am_tsw lo ts d) := fun L S M h => by
  unfold am_tsw
  split
  · exact sc_S h (sc_t h.2.2)
  · trivial
theorem sc_vret : am_SC am_vret := fun L S M h => by
  unfold am_vret
  split
  · exact ⟨h.1, (fun w hw => by cases hw), Nat.le_refl _⟩
  · trivial
theorem sc_rt {ty : Nat} : am_SC (am_rt ty) := fun L S M h => by
  unfold am_rt
  split
  · split
    · exact ⟨h.1, fun w hw => by cases hw; exact sc_h h.2.2, Nat.le_refl _⟩
    · trivial
  · trivial
theorem sc_thr : am_SC am_thr := fun L S M h => by
  unfold am_thr
  split
  · split
    · exact ⟨h.1, sc_h h.2.2 _ rfl, Nat.le_refl _⟩
    · trivial
  · trivial
theorem sc_gf {cs : List Nat} : am_SC (am_gf cs k nxt) := fun L S M h => by
  unfold am_gf
  split
  · split
    · rename_i v hv
      exact sc_S h (sc_c (am_fgc h.1 hv) (sc_t h.2.2))
    · trivial
  · trivial
theorem sc_M {L : am_L} {S S' : List Value} {M M' : am_M} (h : am_Cl L S M) (hM : am_cM M' ∧ am_len M' = am_len M) (hs : ∀ v ∈ S', am_cv (am_len M) v) : am_Cl L S' M' ∧ am_len M ≤ am_len M' := ⟨⟨hM.1, fun k v hk => by rw [hM.2]; exact h.2.1 k v hk, fun v hv => by rw [hM.2]; exact hs v hv⟩, Nat.le_of_eq hM.2.symm⟩
theorem sc_pf {cs : List Nat} {ty : Nat} : am_SC (am_pf cs k ty nxt) := fun L S M h => by
  unfold am_pf
  split
  · split
    · split
      · rename_i M' hM'
        exact sc_M h (am_fpc h.1 (sc_h h.2.2) hM') (sc_t (sc_t h.2.2))
      · trivial
    · trivial
  · trivial
theorem sc_gs : am_SC (am_gs k nxt) := fun L S M h => by
  unfold am_gs
  split
  · rename_i v hv
    exact sc_S h (sc_c (h.1.2.1 v (List.mem_of_getElem? hv)) h.2.2)
  · trivial
theorem sc_xld {ts : List Nat} : am_SC (am_xld ts nxt) := fun L S M h => by
  unfold am_xld
  split
  · split
    · rename_i v hv
      exact sc_S h (sc_c (am_agc h.1 hv) (sc_t (sc_t h.2.2)))
    · trivial
  · trivial
theorem sc_xst {ts : List Nat} : am_SC (am_xst ts nxt) := fun L S M h => by
  unfold am_xst
  split
  · split
    · rename_i M' hM'
      exact sc_M h (am_apc h.1 hM') (sc_t (sc_t (sc_t h.2.2)))
    · trivial
  · trivial
theorem sc_xlst : am_SC (am_xlst nxt) := fun L S M h => by
  unfold am_xlst
  split
  · split
    · rename_i M' hM'
      exact sc_M h (am_alpc h.1 hM') (sc_t (sc_t (sc_t h.2.2)))
    · trivial
  · trivial
theorem sc_xast {cs : List Nat} : am_SC (am_xast t cs nxt) := fun L S M h => by
  unfold am_xast
  split
  · split
    · rename_i M' hM'
      exact sc_M h (am_arpc h.1 (sc_h h.2.2 _ rfl) hM') (sc_t (sc_t (sc_t h.2.2)))
    · trivial
  · trivial
theorem sc_len : am_SC (am_len_ nxt) := fun L S M h => by
  unfold am_len_
  split
  · split
    · exact sc_S h (sc_c am_cv_int (sc_t h.2.2))
    · trivial
  · trivial
theorem sc_N {L : am_L} {S S' : List Value} {M : am_M} {n : Nat} {e : am_E} (h : am_Cl L S M) (he : am_cE (am_len M + 1) e) (hs : ∀ v ∈ S', am_cv (am_len M) v) : am_Cl L (.ref (am_len M) :: S') (am_new M n e) ∧ am_len M ≤ am_len (am_new M n e) := by
  refine ⟨⟨h.1.new he, fun k v hk => ?_, sc_c ?_ (fun v hv => ?_)⟩, ?_⟩
  · rw [am_len_new]; exact (h.2.1 k v hk).mono (Nat.le_succ _)
  · rw [am_len_new]; exact am_cv_ref (Nat.lt_succ_self _)
  · rw [am_len_new]; exact (hs v hv).mono (Nat.le_succ _)
  · rw [am_len_new]; exact Nat.le_succ _
theorem sc_na : am_SC (am_na t nxt) := fun L S M h => by
  unfold am_na
  split
  · split
    · trivial
    · refine sc_N h ?_ (sc_t h.2.2)
      unfold am_zero
      split
      · exact am_cE_int
      · split
        · exact am_cE_long
        · exact fun g hg k b hb => by cases hg; cases hb
  · trivial
theorem sc_no {c : Nat} {fs : List Value} (hf : fs.all (fun v => match v with | .ref _ => false | _ => true) = true) : am_SC (am_no c fs nxt) := fun L S M h => by
  refine sc_N h (fun v hv a e => ?_) h.2.2
  subst e
  have := List.all_eq_true.mp hf _ hv
  cases this
theorem sc_cast {cs : List Nat} : am_SC (am_cast cs nxt) := fun L S M h => by
  unfold am_cast
  split
  · split
    · exact sc_S h h.2.2
    · trivial
  · trivial
theorem sc_cq {y nx : Nat} {av rest : List Value} {b : Bool} {L : am_L} {S : List Value} {M : am_M} (h : am_Cl L S M) (ha : ∀ v ∈ av, v ∈ S) (hr : ∀ v ∈ rest, v ∈ S) : am_SP L M (am_cq y av b nx L rest M) := by
  unfold am_cq
  split
  · exact ⟨rfl, rfl, fun v hv => h.2.2 v (ha v hv), fun v hv => h.2.2 v (hr v hv)⟩
  · trivial
theorem sc_cS {y n : Nat} {b : Bool} : am_SC (am_cS y n b nxt) := fun L S M h => by
  unfold am_cS
  split
  · exact sc_cq h (fun v hv => List.mem_of_mem_take (List.mem_reverse.mp hv)) (fun v hv => List.mem_of_mem_drop hv)
  · trivial
theorem sc_cI {y n : Nat} : am_SC (am_cI y n nxt) := fun L S M h => by
  unfold am_cI
  split
  · rename_i a rest hd
    have hm : ∀ v ∈ Value.ref a :: rest, v ∈ S := fun v hv => List.mem_of_mem_drop (by rw [hd]; exact hv)
    exact sc_cq h (fun v hv => (List.mem_cons.mp hv).elim (fun e => by rw [e]; exact hm _ List.mem_cons_self) (fun hv => List.mem_of_mem_take (List.mem_reverse.mp hv))) (fun v hv => hm v (List.mem_cons_of_mem _ hv))
  · trivial
theorem sc_cV {ys : List (Nat × Nat)} {n : Nat} {b : Bool} : am_SC (am_cV ys n b nxt) := fun L S M h => by
  unfold am_cV
  split
  · rename_i a rest hd
    have hm : ∀ v ∈ Value.ref a :: rest, v ∈ S := fun v hv => List.mem_of_mem_drop (by rw [hd]; exact hv)
    split
    · exact sc_cq h (fun v hv => (List.mem_cons.mp hv).elim (fun e => by rw [e]; exact hm _ List.mem_cons_self) (fun hv => List.mem_of_mem_take (List.mem_reverse.mp hv))) (fun v hv => hm v (List.mem_cons_of_mem _ hv))
    · trivial
  · trivial
theorem sc_oi : am_SC (am_oi nxt) := fun L S M h => by
  unfold am_oi
  split
  · split
    · exact sc_S h (sc_t h.2.2)
    · trivial
  · trivial
theorem sc_mi {f : Int32 → Int32 → Int32} : am_SC (am_mi f nxt) := fun L S M h => by
  unfold am_mi
  split
  · split
    · exact sc_S h (sc_c am_cv_int (sc_t (sc_t h.2.2)))
    · trivial
  · trivial
theorem sc_ml {f : Int64 → Int64 → Int64} : am_SC (am_ml f nxt) := fun L S M h => by
  unfold am_ml
  split
  · split
    · exact sc_S h (sc_c am_cv_long (sc_t (sc_t h.2.2)))
    · trivial
  · trivial
theorem sc_cpyi : am_SC (am_cpyi t nxt) := fun L S M h => by
  unfold am_cpyi
  split
  · split
    · split
      · rename_i M' hM'
        exact sc_M h (am_cpic h.1 hM') (sc_t (sc_t (sc_t (sc_t (sc_t h.2.2)))))
      · trivial
    · trivial
  · trivial
theorem sc_cpyr {cs : List Nat} : am_SC (am_cpyr t cs nxt) := fun L S M h => by
  unfold am_cpyr
  split
  · split
    · split
      · rename_i M' hM'
        exact sc_M h (am_cprc h.1 hM') (sc_t (sc_t (sc_t (sc_t (sc_t h.2.2)))))
      · trivial
    · trivial
  · trivial
theorem sc_gc : am_SC (am_gc nxt) := fun L S M h => by
  unfold am_gc
  split
  · split
    · split
      · exact sc_S h (sc_c (am_cv_ref (Nat.lt_of_lt_of_le (by decide) h.1.2.2)) (sc_t h.2.2))
      · trivial
    · trivial
  · trivial
theorem am_cM.newx {M : am_M} (h : am_cM M) : am_cM (M.1 + 3, M.2.1 + 1010, M.2.2.1, M.2.2.2 ++ [.inr (60, [])]) := h.new (n := 0) (e := .inr (60, [])) (fun v hv => by cases hv)
theorem sc_bldx : am_SC (am_bldx nxt) := fun L S M h => by
  unfold am_bldx
  split
  · split
    · split
      · exact sc_S h (sc_c am_cv_int (sc_t (sc_t h.2.2)))
      · split
        · have e : am_len ((M.1 + 3, M.2.1 + 1010, M.2.2.1, M.2.2.2 ++ [.inr (60, [])]) : am_M) = am_len M + 1 := by simp [am_len]
          exact ⟨h.1.newx, by rw [e]; exact Nat.lt_succ_self _, by rw [e]; exact Nat.le_succ _⟩
        · trivial
    · trivial
  · trivial
end AMSC
/-- the results of calls: within the memory -/
def am_RO (M : am_M) (o : am_O) : Prop := am_cM o.2 ∧ am_len M ≤ am_len o.2 ∧ (match o.1 with
  | .inl v => ∀ w, v = some w → am_cv (am_len o.2) w
  | .inr q => q < am_len o.2)
theorem am_run_cl {T : Nat → Option am_S} {hs : List (Nat × Nat × Nat × List Nat)} {call : Nat → List Value → am_M → Option am_O} (hT : ∀ pc f, T pc = some f → am_SC f) (hc : ∀ y av M o, am_cM M → (∀ v ∈ av, am_cv (am_len M) v) → call y av M = some o → am_RO M o) :
    ∀ (n pc : Nat) (L : am_L) (S : List Value) (M : am_M) (o : am_O), am_Cl L S M → am_run T hs call n pc L S M = some o → am_RO M o := by
  intro n
  induction n with
  | zero => intro pc L S M o _ h; simp [am_run] at h
  | succ n ih =>
    intro pc L S M o hC h
    rw [am_run] at h
    split at h
    · cases h
    · rename_i f hf
      have hs := hT pc f hf L S M hC
      split at h
      · cases h
      · rename_i pc' L' S' M' he
        rw [he] at hs
        obtain ⟨a1, a2, a3⟩ := ih _ _ _ _ _ hs.1 h
        exact ⟨a1, Nat.le_trans hs.2 a2, a3⟩
      · rename_i v M' he
        rw [he] at hs
        cases h
        exact ⟨hs.1, hs.2.2, hs.2.1⟩
      · rename_i q M' he
        rw [he] at hs
        split at h
        · cases h
          exact ⟨hs.1, hs.2.2, hs.2.1⟩
        · obtain ⟨a1, a2, a3⟩ := ih _ _ _ _ _ ⟨hs.1, fun k v hk => (hC.2.1 k v hk).mono hs.2.2, sc_c (am_cv_ref hs.2.1) (fun v hv => by cases hv)⟩ h
          exact ⟨a1, Nat.le_trans hs.2.2 a2, a3⟩
      · rename_i y av b nxt L' rest M' he
        rw [he] at hs
        obtain ⟨rfl, rfl, h3, h4⟩ := hs
        split at h
        · cases h
        · rename_i v M2 hcall
          obtain ⟨b1, b2, b3⟩ := hc _ _ _ _ hC.1 h3 hcall
          split at h
          · obtain ⟨a1, a2, a3⟩ := ih _ _ _ _ _ ⟨b1, fun k v hk => (hC.2.1 k v hk).mono b2, fun w hw => (List.mem_append.mp hw).elim (fun hw => b3 w (by cases v with | none => cases hw | some z => simp at hw; rw [hw])) (fun hw => (h4 w hw).mono b2)⟩ h
            exact ⟨a1, Nat.le_trans b2 a2, a3⟩
          · cases h
        · rename_i q M2 hcall
          obtain ⟨b1, b2, b3⟩ := hc _ _ _ _ hC.1 h3 hcall
          split at h
          · cases h
            exact ⟨b1, b2, b3⟩
          · obtain ⟨a1, a2, a3⟩ := ih _ _ _ _ _ ⟨b1, fun k v hk => (hC.2.1 k v hk).mono b2, sc_c (am_cv_ref b3) (fun v hv => by cases hv)⟩ h
            exact ⟨a1, Nat.le_trans b2 a2, a3⟩
theorem am_init_cl {n N : Nat} {av : List Value} (h : ∀ v ∈ av, am_cv N v) : ∀ (k : Nat) (v : Value), (am_init n av)[k]? = some (some v) → am_cv N v := by
  intro k v hk
  have hm := List.mem_of_getElem? hk
  unfold am_init at hm
  rcases List.mem_append.mp hm with hm | hm
  · obtain ⟨w, hw, hm⟩ := List.mem_flatMap.mp hm
    cases w <;> simp at hm <;> first | (rw [hm]; exact h _ hw) | skip
  · have := (List.mem_replicate.mp hm).2
    cases this
theorem am_call_cl (hT : ∀ y pc f, am_T y pc = some f → am_SC f) : ∀ (d y : Nat) (av : List Value) (M : am_M) (o : am_O), am_cM M → (∀ v ∈ av, am_cv (am_len M) v) → am_call d y av M = some o → am_RO M o := by
  intro d
  induction d with
  | zero => intro y av M o _ _ h; simp [am_call] at h
  | succ d ih =>
    intro y av M o hM hav h
    obtain ⟨-, n, hn⟩ := am_call_iff'.mp h
    exact am_run_cl (hT y) ih n _ _ _ _ _ ⟨hM, am_init_cl hav, fun v hv => by cases hv⟩ hn
