/-! Soundness of AM: the machine does what AM does -/
set_option maxRecDepth 100000
/-! room never shrinks -/
def am_Mm (x : am_R) : am_M := match x with
  | .inl (_, _, _, M) => M
  | .inr (.inl (_, M)) => M
  | .inr (.inr (_, _, _, _, _, _, M)) => M
def am_MN (f : am_S) : Prop := ∀ L S M x, f L S M = some x → M.1 ≤ (am_Mm x).1 ∧ M.2.1 ≤ (am_Mm x).2.1
theorem mm_fp {M M' : am_M} {cs : List Nat} {a k : Nat} {v : Value} (h : am_fp M cs a k v = some M') : M.1 ≤ M'.1 ∧ M.2.1 ≤ M'.2.1 := by
  unfold am_fp at h
  (repeat' split at h) <;> first | (cases h; done) | (cases h; exact ⟨Nat.le_refl _, Nat.le_refl _⟩)
theorem mm_ap {M M' : am_M} {ts : List Nat} {a : Nat} {i x : Int32} (h : am_ap M ts a i x = some M') : M.1 ≤ M'.1 ∧ M.2.1 ≤ M'.2.1 := by
  unfold am_ap at h
  (repeat' split at h) <;> first | (cases h; done) | (cases h; exact ⟨Nat.le_refl _, Nat.le_refl _⟩)
theorem mm_alp {M M' : am_M} {a : Nat} {i : Int32} {x : Int64} (h : am_alp M a i x = some M') : M.1 ≤ M'.1 ∧ M.2.1 ≤ M'.2.1 := by
  unfold am_alp at h
  (repeat' split at h) <;> first | (cases h; done) | (cases h; exact ⟨Nat.le_refl _, Nat.le_refl _⟩)
theorem mm_arp {M M' : am_M} {t a v : Nat} {cs : List Nat} {i : Int32} (h : am_arp M t cs a i v = some M') : M.1 ≤ M'.1 ∧ M.2.1 ≤ M'.2.1 := by
  unfold am_arp at h
  (repeat' split at h) <;> first | (cases h; done) | (cases h; exact ⟨Nat.le_refl _, Nat.le_refl _⟩)
theorem mm_cpi {M M' : am_M} {t a0 a1 : Nat} {sp dp n : Int32} (h : am_cpi M t a0 sp a1 dp n = some M') : M.1 ≤ M'.1 ∧ M.2.1 ≤ M'.2.1 := by
  unfold am_cpi at h
  (repeat' split at h) <;> first | (cases h; done) | (cases h; exact ⟨Nat.le_refl _, Nat.le_refl _⟩)
theorem mm_cpr {M M' : am_M} {t a0 a1 : Nat} {cs : List Nat} {sp dp n : Int32} (h : am_cpr M t cs a0 sp a1 dp n = some M') : M.1 ≤ M'.1 ∧ M.2.1 ≤ M'.2.1 := by
  unfold am_cpr at h
  (repeat' split at h) <;> first | (cases h; done) | (cases h; exact ⟨Nat.le_refl _, Nat.le_refl _⟩)
theorem mn_push {nxt : Nat} (v : Value) : am_MN (am_push v nxt) := fun L S M x h => by
  unfold am_push at h
  try unfold am_cq at h
  (repeat' split at h) <;> (try unfold am_nx at h) <;> (try unfold am_done at h) <;> first | (cases h; done) | (cases h; exact ⟨Nat.le_refl _, Nat.le_refl _⟩) | (cases h; exact ⟨Nat.le_add_right _ _, Nat.le_add_right _ _⟩) | (cases h; first | exact mm_fp (by assumption) | exact mm_ap (by assumption) | exact mm_alp (by assumption) | exact mm_arp (by assumption) | exact mm_cpi (by assumption) | exact mm_cpr (by assumption))
theorem mn_ild {nxt : Nat} {k : Nat} : am_MN (am_ild k nxt) := fun L S M x h => by
  unfold am_ild at h
  try unfold am_cq at h
  (repeat' split at h) <;> (try unfold am_nx at h) <;> (try unfold am_done at h) <;> first | (cases h; done) | (cases h; exact ⟨Nat.le_refl _, Nat.le_refl _⟩) | (cases h; exact ⟨Nat.le_add_right _ _, Nat.le_add_right _ _⟩) | (cases h; first | exact mm_fp (by assumption) | exact mm_ap (by assumption) | exact mm_alp (by assumption) | exact mm_arp (by assumption) | exact mm_cpi (by assumption) | exact mm_cpr (by assumption))
theorem mn_lld {nxt : Nat} {k : Nat} : am_MN (am_lld k nxt) := fun L S M x h => by
  unfold am_lld at h
  try unfold am_cq at h
  (repeat' split at h) <;> (try unfold am_nx at h) <;> (try unfold am_done at h) <;> first | (cases h; done) | (cases h; exact ⟨Nat.le_refl _, Nat.le_refl _⟩) | (cases h; exact ⟨Nat.le_add_right _ _, Nat.le_add_right _ _⟩) | (cases h; first | exact mm_fp (by assumption) | exact mm_ap (by assumption) | exact mm_alp (by assumption) | exact mm_arp (by assumption) | exact mm_cpi (by assumption) | exact mm_cpr (by assumption))
theorem mn_ald {nxt : Nat} {k : Nat} : am_MN (am_ald k nxt) := fun L S M x h => by
  unfold am_ald at h
  try unfold am_cq at h
  (repeat' split at h) <;> (try unfold am_nx at h) <;> (try unfold am_done at h) <;> first | (cases h; done) | (cases h; exact ⟨Nat.le_refl _, Nat.le_refl _⟩) | (cases h; exact ⟨Nat.le_add_right _ _, Nat.le_add_right _ _⟩) | (cases h; first | exact mm_fp (by assumption) | exact mm_ap (by assumption) | exact mm_alp (by assumption) | exact mm_arp (by assumption) | exact mm_cpi (by assumption) | exact mm_cpr (by assumption))
theorem mn_sti {nxt : Nat} {k : Nat} : am_MN (am_sti k nxt) := fun L S M x h => by
  unfold am_sti at h
  try unfold am_cq at h
  (repeat' split at h) <;> (try unfold am_nx at h) <;> (try unfold am_done at h) <;> first | (cases h; done) | (cases h; exact ⟨Nat.le_refl _, Nat.le_refl _⟩) | (cases h; exact ⟨Nat.le_add_right _ _, Nat.le_add_right _ _⟩) | (cases h; first | exact mm_fp (by assumption) | exact mm_ap (by assumption) | exact mm_alp (by assumption) | exact mm_arp (by assumption) | exact mm_cpi (by assumption) | exact mm_cpr (by assumption))
theorem mn_sta {nxt : Nat} {k : Nat} : am_MN (am_sta k nxt) := fun L S M x h => by
  unfold am_sta at h
  try unfold am_cq at h
  (repeat' split at h) <;> (try unfold am_nx at h) <;> (try unfold am_done at h) <;> first | (cases h; done) | (cases h; exact ⟨Nat.le_refl _, Nat.le_refl _⟩) | (cases h; exact ⟨Nat.le_add_right _ _, Nat.le_add_right _ _⟩) | (cases h; first | exact mm_fp (by assumption) | exact mm_ap (by assumption) | exact mm_alp (by assumption) | exact mm_arp (by assumption) | exact mm_cpi (by assumption) | exact mm_cpr (by assumption))
theorem mn_lst {nxt : Nat} {k : Nat} : am_MN (am_lst k nxt) := fun L S M x h => by
  unfold am_lst at h
  try unfold am_cq at h
  (repeat' split at h) <;> (try unfold am_nx at h) <;> (try unfold am_done at h) <;> first | (cases h; done) | (cases h; exact ⟨Nat.le_refl _, Nat.le_refl _⟩) | (cases h; exact ⟨Nat.le_add_right _ _, Nat.le_add_right _ _⟩) | (cases h; first | exact mm_fp (by assumption) | exact mm_ap (by assumption) | exact mm_alp (by assumption) | exact mm_arp (by assumption) | exact mm_cpi (by assumption) | exact mm_cpr (by assumption))
theorem mn_inc {nxt : Nat} {k : Nat} {c : Int32} : am_MN (am_inc k c nxt) := fun L S M x h => by
  unfold am_inc at h
  try unfold am_cq at h
  (repeat' split at h) <;> (try unfold am_nx at h) <;> (try unfold am_done at h) <;> first | (cases h; done) | (cases h; exact ⟨Nat.le_refl _, Nat.le_refl _⟩) | (cases h; exact ⟨Nat.le_add_right _ _, Nat.le_add_right _ _⟩) | (cases h; first | exact mm_fp (by assumption) | exact mm_ap (by assumption) | exact mm_alp (by assumption) | exact mm_arp (by assumption) | exact mm_cpi (by assumption) | exact mm_cpr (by assumption))
theorem mn_bi {nxt : Nat} {f : Int32 → Int32 → Int32} : am_MN (am_bi f nxt) := fun L S M x h => by
  unfold am_bi at h
  try unfold am_cq at h
  (repeat' split at h) <;> (try unfold am_nx at h) <;> (try unfold am_done at h) <;> first | (cases h; done) | (cases h; exact ⟨Nat.le_refl _, Nat.le_refl _⟩) | (cases h; exact ⟨Nat.le_add_right _ _, Nat.le_add_right _ _⟩) | (cases h; first | exact mm_fp (by assumption) | exact mm_ap (by assumption) | exact mm_alp (by assumption) | exact mm_arp (by assumption) | exact mm_cpi (by assumption) | exact mm_cpr (by assumption))
theorem mn_bd {nxt : Nat} {f : Int32 → Int32 → Int32} : am_MN (am_bd f nxt) := fun L S M x h => by
  unfold am_bd at h
  try unfold am_cq at h
  (repeat' split at h) <;> (try unfold am_nx at h) <;> (try unfold am_done at h) <;> first | (cases h; done) | (cases h; exact ⟨Nat.le_refl _, Nat.le_refl _⟩) | (cases h; exact ⟨Nat.le_add_right _ _, Nat.le_add_right _ _⟩) | (cases h; first | exact mm_fp (by assumption) | exact mm_ap (by assumption) | exact mm_alp (by assumption) | exact mm_arp (by assumption) | exact mm_cpi (by assumption) | exact mm_cpr (by assumption))
theorem mn_ui {nxt : Nat} {f : Int32 → Int32} : am_MN (am_ui f nxt) := fun L S M x h => by
  unfold am_ui at h
  try unfold am_cq at h
  (repeat' split at h) <;> (try unfold am_nx at h) <;> (try unfold am_done at h) <;> first | (cases h; done) | (cases h; exact ⟨Nat.le_refl _, Nat.le_refl _⟩) | (cases h; exact ⟨Nat.le_add_right _ _, Nat.le_add_right _ _⟩) | (cases h; first | exact mm_fp (by assumption) | exact mm_ap (by assumption) | exact mm_alp (by assumption) | exact mm_arp (by assumption) | exact mm_cpi (by assumption) | exact mm_cpr (by assumption))
theorem mn_i2l {nxt : Nat}  : am_MN (am_i2l nxt) := fun L S M x h => by
  unfold am_i2l at h
  try unfold am_cq at h
  (repeat' split at h) <;> (try unfold am_nx at h) <;> (try unfold am_done at h) <;> first | (cases h; done) | (cases h; exact ⟨Nat.le_refl _, Nat.le_refl _⟩) | (cases h; exact ⟨Nat.le_add_right _ _, Nat.le_add_right _ _⟩) | (cases h; first | exact mm_fp (by assumption) | exact mm_ap (by assumption) | exact mm_alp (by assumption) | exact mm_arp (by assumption) | exact mm_cpi (by assumption) | exact mm_cpr (by assumption))
theorem mn_l2i {nxt : Nat}  : am_MN (am_l2i nxt) := fun L S M x h => by
  unfold am_l2i at h
  try unfold am_cq at h
  (repeat' split at h) <;> (try unfold am_nx at h) <;> (try unfold am_done at h) <;> first | (cases h; done) | (cases h; exact ⟨Nat.le_refl _, Nat.le_refl _⟩) | (cases h; exact ⟨Nat.le_add_right _ _, Nat.le_add_right _ _⟩) | (cases h; first | exact mm_fp (by assumption) | exact mm_ap (by assumption) | exact mm_alp (by assumption) | exact mm_arp (by assumption) | exact mm_cpi (by assumption) | exact mm_cpr (by assumption))
theorem mn_bl {nxt : Nat} {f : Int64 → Int64 → Int64} : am_MN (am_bl f nxt) := fun L S M x h => by
  unfold am_bl at h
  try unfold am_cq at h
  (repeat' split at h) <;> (try unfold am_nx at h) <;> (try unfold am_done at h) <;> first | (cases h; done) | (cases h; exact ⟨Nat.le_refl _, Nat.le_refl _⟩) | (cases h; exact ⟨Nat.le_add_right _ _, Nat.le_add_right _ _⟩) | (cases h; first | exact mm_fp (by assumption) | exact mm_ap (by assumption) | exact mm_alp (by assumption) | exact mm_arp (by assumption) | exact mm_cpi (by assumption) | exact mm_cpr (by assumption))
theorem mn_bld {nxt : Nat} {f : Int64 → Int64 → Int64} : am_MN (am_bld f nxt) := fun L S M x h => by
  unfold am_bld at h
  try unfold am_cq at h
  (repeat' split at h) <;> (try unfold am_nx at h) <;> (try unfold am_done at h) <;> first | (cases h; done) | (cases h; exact ⟨Nat.le_refl _, Nat.le_refl _⟩) | (cases h; exact ⟨Nat.le_add_right _ _, Nat.le_add_right _ _⟩) | (cases h; first | exact mm_fp (by assumption) | exact mm_ap (by assumption) | exact mm_alp (by assumption) | exact mm_arp (by assumption) | exact mm_cpi (by assumption) | exact mm_cpr (by assumption))
theorem mn_lcmp {nxt : Nat}  : am_MN (am_lcmp nxt) := fun L S M x h => by
  unfold am_lcmp at h
  try unfold am_cq at h
  (repeat' split at h) <;> (try unfold am_nx at h) <;> (try unfold am_done at h) <;> first | (cases h; done) | (cases h; exact ⟨Nat.le_refl _, Nat.le_refl _⟩) | (cases h; exact ⟨Nat.le_add_right _ _, Nat.le_add_right _ _⟩) | (cases h; first | exact mm_fp (by assumption) | exact mm_ap (by assumption) | exact mm_alp (by assumption) | exact mm_arp (by assumption) | exact mm_cpi (by assumption) | exact mm_cpr (by assumption))
theorem mn_dup {nxt : Nat}  : am_MN (am_dup nxt) := fun L S M x h => by
  unfold am_dup at h
  try unfold am_cq at h
  (repeat' split at h) <;> (try unfold am_nx at h) <;> (try unfold am_done at h) <;> first | (cases h; done) | (cases h; exact ⟨Nat.le_refl _, Nat.le_refl _⟩) | (cases h; exact ⟨Nat.le_add_right _ _, Nat.le_add_right _ _⟩) | (cases h; first | exact mm_fp (by assumption) | exact mm_ap (by assumption) | exact mm_alp (by assumption) | exact mm_arp (by assumption) | exact mm_cpi (by assumption) | exact mm_cpr (by assumption))
theorem mn_pop {nxt : Nat}  : am_MN (am_pop nxt) := fun L S M x h => by
  unfold am_pop at h
  try unfold am_cq at h
  (repeat' split at h) <;> (try unfold am_nx at h) <;> (try unfold am_done at h) <;> first | (cases h; done) | (cases h; exact ⟨Nat.le_refl _, Nat.le_refl _⟩) | (cases h; exact ⟨Nat.le_add_right _ _, Nat.le_add_right _ _⟩) | (cases h; first | exact mm_fp (by assumption) | exact mm_ap (by assumption) | exact mm_alp (by assumption) | exact mm_arp (by assumption) | exact mm_cpi (by assumption) | exact mm_cpr (by assumption))
theorem mn_dupx1 {nxt : Nat}  : am_MN (am_dupx1 nxt) := fun L S M x h => by
  unfold am_dupx1 at h
  try unfold am_cq at h
  (repeat' split at h) <;> (try unfold am_nx at h) <;> (try unfold am_done at h) <;> first | (cases h; done) | (cases h; exact ⟨Nat.le_refl _, Nat.le_refl _⟩) | (cases h; exact ⟨Nat.le_add_right _ _, Nat.le_add_right _ _⟩) | (cases h; first | exact mm_fp (by assumption) | exact mm_ap (by assumption) | exact mm_alp (by assumption) | exact mm_arp (by assumption) | exact mm_cpi (by assumption) | exact mm_cpr (by assumption))
theorem mn_dup2 {nxt : Nat}  : am_MN (am_dup2 nxt) := fun L S M x h => by
  unfold am_dup2 at h
  try unfold am_cq at h
  (repeat' split at h) <;> (try unfold am_nx at h) <;> (try unfold am_done at h) <;> first | (cases h; done) | (cases h; exact ⟨Nat.le_refl _, Nat.le_refl _⟩) | (cases h; exact ⟨Nat.le_add_right _ _, Nat.le_add_right _ _⟩) | (cases h; first | exact mm_fp (by assumption) | exact mm_ap (by assumption) | exact mm_alp (by assumption) | exact mm_arp (by assumption) | exact mm_cpi (by assumption) | exact mm_cpr (by assumption))
theorem mn_if {nxt : Nat} {c tgt : Nat} : am_MN (am_if c tgt nxt) := fun L S M x h => by
  unfold am_if at h
  try unfold am_cq at h
  (repeat' split at h) <;> (try unfold am_nx at h) <;> (try unfold am_done at h) <;> first | (cases h; done) | (cases h; exact ⟨Nat.le_refl _, Nat.le_refl _⟩) | (cases h; exact ⟨Nat.le_add_right _ _, Nat.le_add_right _ _⟩) | (cases h; first | exact mm_fp (by assumption) | exact mm_ap (by assumption) | exact mm_alp (by assumption) | exact mm_arp (by assumption) | exact mm_cpi (by assumption) | exact mm_cpr (by assumption))
theorem mn_ic {nxt : Nat} {c tgt : Nat} : am_MN (am_ic c tgt nxt) := fun L S M x h => by
  unfold am_ic at h
  try unfold am_cq at h
  (repeat' split at h) <;> (try unfold am_nx at h) <;> (try unfold am_done at h) <;> first | (cases h; done) | (cases h; exact ⟨Nat.le_refl _, Nat.le_refl _⟩) | (cases h; exact ⟨Nat.le_add_right _ _, Nat.le_add_right _ _⟩) | (cases h; first | exact mm_fp (by assumption) | exact mm_ap (by assumption) | exact mm_alp (by assumption) | exact mm_arp (by assumption) | exact mm_cpi (by assumption) | exact mm_cpr (by assumption))
theorem mn_go {nxt : Nat}  : am_MN (am_go nxt) := fun L S M x h => by
  unfold am_go at h
  try unfold am_cq at h
  (repeat' split at h) <;> (try unfold am_nx at h) <;> (try unfold am_done at h) <;> first | (cases h; done) | (cases h; exact ⟨Nat.le_refl _, Nat.le_refl _⟩) | (cases h; exact ⟨Nat.le_add_right _ _, Nat.le_add_right _ _⟩) | (cases h; first | exact mm_fp (by assumption) | exact mm_ap (by assumption) | exact mm_alp (by assumption) | exact mm_arp (by assumption) | exact mm_cpi (by assumption) | exact mm_cpr (by assumption))
theorem mn_nul {nxt : Nat} {a : Nat} : am_MN (am_nul a nxt) := fun L S M x h => by
  unfold am_nul at h
  try unfold am_cq at h
  (repeat' split at h) <;> (try unfold am_nx at h) <;> (try unfold am_done at h) <;> first | (cases h; done) | (cases h; exact ⟨Nat.le_refl _, Nat.le_refl _⟩) | (cases h; exact ⟨Nat.le_add_right _ _, Nat.le_add_right _ _⟩) | (cases h; first | exact mm_fp (by assumption) | exact mm_ap (by assumption) | exact mm_alp (by assumption) | exact mm_arp (by assumption) | exact mm_cpi (by assumption) | exact mm_cpr (by assumption))
theorem mn_ac {nxt : Nat} {a : Nat} : am_MN (am_ac a nxt) := fun L S M x h => by
  unfold am_ac at h
  try unfold am_cq at h
  (repeat' split at h) <;> (try unfold am_nx at h) <;> (try unfold am_done at h) <;> first | (cases h; done) | (cases h; exact ⟨Nat.le_refl _, Nat.le_refl _⟩) | (cases h; exact ⟨Nat.le_add_right _ _, Nat.le_add_right _ _⟩) | (cases h; first | exact mm_fp (by assumption) | exact mm_ap (by assumption) | exact mm_alp (by assumption) | exact mm_arp (by assumption) | exact mm_cpi (by assumption) | exact mm_cpr (by assumption))
theorem mn_tsw {lo : Int} {ts : List Nat} {d : Nat} : am_MN (am_tsw lo ts d) := fun L S M x h => by
  unfold am_tsw at h
  try unfold am_cq at h
  (repeat' split at h) <;> (try unfold am_nx at h) <;> (try unfold am_done at h) <;> first | (cases h; done) | (cases h; exact ⟨Nat.le_refl _, Nat.le_refl _⟩) | (cases h; exact ⟨Nat.le_add_right _ _, Nat.le_add_right _ _⟩) | (cases h; first | exact mm_fp (by assumption) | exact mm_ap (by assumption) | exact mm_alp (by assumption) | exact mm_arp (by assumption) | exact mm_cpi (by assumption) | exact mm_cpr (by assumption))
theorem mn_vret  : am_MN (am_vret) := fun L S M x h => by
  unfold am_vret at h
  try unfold am_cq at h
  (repeat' split at h) <;> (try unfold am_nx at h) <;> (try unfold am_done at h) <;> first | (cases h; done) | (cases h; exact ⟨Nat.le_refl _, Nat.le_refl _⟩) | (cases h; exact ⟨Nat.le_add_right _ _, Nat.le_add_right _ _⟩) | (cases h; first | exact mm_fp (by assumption) | exact mm_ap (by assumption) | exact mm_alp (by assumption) | exact mm_arp (by assumption) | exact mm_cpi (by assumption) | exact mm_cpr (by assumption))
theorem mn_rt {ty : Nat} : am_MN (am_rt ty) := fun L S M x h => by
  unfold am_rt at h
  try unfold am_cq at h
  (repeat' split at h) <;> (try unfold am_nx at h) <;> (try unfold am_done at h) <;> first | (cases h; done) | (cases h; exact ⟨Nat.le_refl _, Nat.le_refl _⟩) | (cases h; exact ⟨Nat.le_add_right _ _, Nat.le_add_right _ _⟩) | (cases h; first | exact mm_fp (by assumption) | exact mm_ap (by assumption) | exact mm_alp (by assumption) | exact mm_arp (by assumption) | exact mm_cpi (by assumption) | exact mm_cpr (by assumption))
theorem mn_thr  : am_MN (am_thr) := fun L S M x h => by
  unfold am_thr at h
  try unfold am_cq at h
  (repeat' split at h) <;> (try unfold am_nx at h) <;> (try unfold am_done at h) <;> first | (cases h; done) | (cases h; exact ⟨Nat.le_refl _, Nat.le_refl _⟩) | (cases h; exact ⟨Nat.le_add_right _ _, Nat.le_add_right _ _⟩) | (cases h; first | exact mm_fp (by assumption) | exact mm_ap (by assumption) | exact mm_alp (by assumption) | exact mm_arp (by assumption) | exact mm_cpi (by assumption) | exact mm_cpr (by assumption))
theorem mn_gf {nxt : Nat} {cs : List Nat} {k : Nat} : am_MN (am_gf cs k nxt) := fun L S M x h => by
  unfold am_gf at h
  try unfold am_cq at h
  (repeat' split at h) <;> (try unfold am_nx at h) <;> (try unfold am_done at h) <;> first | (cases h; done) | (cases h; exact ⟨Nat.le_refl _, Nat.le_refl _⟩) | (cases h; exact ⟨Nat.le_add_right _ _, Nat.le_add_right _ _⟩) | (cases h; first | exact mm_fp (by assumption) | exact mm_ap (by assumption) | exact mm_alp (by assumption) | exact mm_arp (by assumption) | exact mm_cpi (by assumption) | exact mm_cpr (by assumption))
theorem mn_pf {nxt : Nat} {cs : List Nat} {k ty : Nat} : am_MN (am_pf cs k ty nxt) := fun L S M x h => by
  unfold am_pf at h
  try unfold am_cq at h
  (repeat' split at h) <;> (try unfold am_nx at h) <;> (try unfold am_done at h) <;> first | (cases h; done) | (cases h; exact ⟨Nat.le_refl _, Nat.le_refl _⟩) | (cases h; exact ⟨Nat.le_add_right _ _, Nat.le_add_right _ _⟩) | (cases h; first | exact mm_fp (by assumption) | exact mm_ap (by assumption) | exact mm_alp (by assumption) | exact mm_arp (by assumption) | exact mm_cpi (by assumption) | exact mm_cpr (by assumption))
theorem mn_gs {nxt : Nat} {k : Nat} : am_MN (am_gs k nxt) := fun L S M x h => by
  unfold am_gs at h
  try unfold am_cq at h
  (repeat' split at h) <;> (try unfold am_nx at h) <;> (try unfold am_done at h) <;> first | (cases h; done) | (cases h; exact ⟨Nat.le_refl _, Nat.le_refl _⟩) | (cases h; exact ⟨Nat.le_add_right _ _, Nat.le_add_right _ _⟩) | (cases h; first | exact mm_fp (by assumption) | exact mm_ap (by assumption) | exact mm_alp (by assumption) | exact mm_arp (by assumption) | exact mm_cpi (by assumption) | exact mm_cpr (by assumption))
theorem mn_xld {nxt : Nat} {ts : List Nat} : am_MN (am_xld ts nxt) := fun L S M x h => by
  unfold am_xld at h
  try unfold am_cq at h
  (repeat' split at h) <;> (try unfold am_nx at h) <;> (try unfold am_done at h) <;> first | (cases h; done) | (cases h; exact ⟨Nat.le_refl _, Nat.le_refl _⟩) | (cases h; exact ⟨Nat.le_add_right _ _, Nat.le_add_right _ _⟩) | (cases h; first | exact mm_fp (by assumption) | exact mm_ap (by assumption) | exact mm_alp (by assumption) | exact mm_arp (by assumption) | exact mm_cpi (by assumption) | exact mm_cpr (by assumption))
theorem mn_xst {nxt : Nat} {ts : List Nat} : am_MN (am_xst ts nxt) := fun L S M x h => by
  unfold am_xst at h
  try unfold am_cq at h
  (repeat' split at h) <;> (try unfold am_nx at h) <;> (try unfold am_done at h) <;> first | (cases h; done) | (cases h; exact ⟨Nat.le_refl _, Nat.le_refl _⟩) | (cases h; exact ⟨Nat.le_add_right _ _, Nat.le_add_right _ _⟩) | (cases h; first | exact mm_fp (by assumption) | exact mm_ap (by assumption) | exact mm_alp (by assumption) | exact mm_arp (by assumption) | exact mm_cpi (by assumption) | exact mm_cpr (by assumption))
theorem mn_xlst {nxt : Nat}  : am_MN (am_xlst nxt) := fun L S M x h => by
  unfold am_xlst at h
  try unfold am_cq at h
  (repeat' split at h) <;> (try unfold am_nx at h) <;> (try unfold am_done at h) <;> first | (cases h; done) | (cases h; exact ⟨Nat.le_refl _, Nat.le_refl _⟩) | (cases h; exact ⟨Nat.le_add_right _ _, Nat.le_add_right _ _⟩) | (cases h; first | exact mm_fp (by assumption) | exact mm_ap (by assumption) | exact mm_alp (by assumption) | exact mm_arp (by assumption) | exact mm_cpi (by assumption) | exact mm_cpr (by assumption))
theorem mn_xast {nxt : Nat} {t : Nat} {cs : List Nat} : am_MN (am_xast t cs nxt) := fun L S M x h => by
  unfold am_xast at h
  try unfold am_cq at h
  (repeat' split at h) <;> (try unfold am_nx at h) <;> (try unfold am_done at h) <;> first | (cases h; done) | (cases h; exact ⟨Nat.le_refl _, Nat.le_refl _⟩) | (cases h; exact ⟨Nat.le_add_right _ _, Nat.le_add_right _ _⟩) | (cases h; first | exact mm_fp (by assumption) | exact mm_ap (by assumption) | exact mm_alp (by assumption) | exact mm_arp (by assumption) | exact mm_cpi (by assumption) | exact mm_cpr (by assumption))
theorem mn_len_ {nxt : Nat}  : am_MN (am_len_ nxt) := fun L S M x h => by
  unfold am_len_ at h
  try unfold am_cq at h
  (repeat' split at h) <;> (try unfold am_nx at h) <;> (try unfold am_done at h) <;> first | (cases h; done) | (cases h; exact ⟨Nat.le_refl _, Nat.le_refl _⟩) | (cases h; exact ⟨Nat.le_add_right _ _, Nat.le_add_right _ _⟩) | (cases h; first | exact mm_fp (by assumption) | exact mm_ap (by assumption) | exact mm_alp (by assumption) | exact mm_arp (by assumption) | exact mm_cpi (by assumption) | exact mm_cpr (by assumption))
theorem mn_na {nxt : Nat} {t : Nat} : am_MN (am_na t nxt) := fun L S M x h => by
  unfold am_na at h
  try unfold am_cq at h
  (repeat' split at h) <;> (try unfold am_nx at h) <;> (try unfold am_done at h) <;> first | (cases h; done) | (cases h; exact ⟨Nat.le_refl _, Nat.le_refl _⟩) | (cases h; exact ⟨Nat.le_add_right _ _, Nat.le_add_right _ _⟩) | (cases h; first | exact mm_fp (by assumption) | exact mm_ap (by assumption) | exact mm_alp (by assumption) | exact mm_arp (by assumption) | exact mm_cpi (by assumption) | exact mm_cpr (by assumption))
theorem mn_no {nxt : Nat} {c : Nat} {fs : List Value} : am_MN (am_no c fs nxt) := fun L S M x h => by
  unfold am_no at h
  try unfold am_cq at h
  (repeat' split at h) <;> (try unfold am_nx at h) <;> (try unfold am_done at h) <;> first | (cases h; done) | (cases h; exact ⟨Nat.le_refl _, Nat.le_refl _⟩) | (cases h; exact ⟨Nat.le_add_right _ _, Nat.le_add_right _ _⟩) | (cases h; first | exact mm_fp (by assumption) | exact mm_ap (by assumption) | exact mm_alp (by assumption) | exact mm_arp (by assumption) | exact mm_cpi (by assumption) | exact mm_cpr (by assumption))
theorem mn_cast {nxt : Nat} {cs : List Nat} : am_MN (am_cast cs nxt) := fun L S M x h => by
  unfold am_cast at h
  try unfold am_cq at h
  (repeat' split at h) <;> (try unfold am_nx at h) <;> (try unfold am_done at h) <;> first | (cases h; done) | (cases h; exact ⟨Nat.le_refl _, Nat.le_refl _⟩) | (cases h; exact ⟨Nat.le_add_right _ _, Nat.le_add_right _ _⟩) | (cases h; first | exact mm_fp (by assumption) | exact mm_ap (by assumption) | exact mm_alp (by assumption) | exact mm_arp (by assumption) | exact mm_cpi (by assumption) | exact mm_cpr (by assumption))
theorem mn_cS {nxt : Nat} {y n : Nat} {b : Bool} : am_MN (am_cS y n b nxt) := fun L S M x h => by
  unfold am_cS at h
  try unfold am_cq at h
  (repeat' split at h) <;> (try unfold am_nx at h) <;> (try unfold am_done at h) <;> first | (cases h; done) | (cases h; exact ⟨Nat.le_refl _, Nat.le_refl _⟩) | (cases h; exact ⟨Nat.le_add_right _ _, Nat.le_add_right _ _⟩) | (cases h; first | exact mm_fp (by assumption) | exact mm_ap (by assumption) | exact mm_alp (by assumption) | exact mm_arp (by assumption) | exact mm_cpi (by assumption) | exact mm_cpr (by assumption))
theorem mn_cI {nxt : Nat} {y n : Nat} : am_MN (am_cI y n nxt) := fun L S M x h => by
  unfold am_cI at h
  try unfold am_cq at h
  (repeat' split at h) <;> (try unfold am_nx at h) <;> (try unfold am_done at h) <;> first | (cases h; done) | (cases h; exact ⟨Nat.le_refl _, Nat.le_refl _⟩) | (cases h; exact ⟨Nat.le_add_right _ _, Nat.le_add_right _ _⟩) | (cases h; first | exact mm_fp (by assumption) | exact mm_ap (by assumption) | exact mm_alp (by assumption) | exact mm_arp (by assumption) | exact mm_cpi (by assumption) | exact mm_cpr (by assumption))
theorem mn_cV {nxt : Nat} {ys : List (Nat × Nat)} {n : Nat} {b : Bool} : am_MN (am_cV ys n b nxt) := fun L S M x h => by
  unfold am_cV at h
  try unfold am_cq at h
  (repeat' split at h) <;> (try unfold am_nx at h) <;> (try unfold am_done at h) <;> first | (cases h; done) | (cases h; exact ⟨Nat.le_refl _, Nat.le_refl _⟩) | (cases h; exact ⟨Nat.le_add_right _ _, Nat.le_add_right _ _⟩) | (cases h; first | exact mm_fp (by assumption) | exact mm_ap (by assumption) | exact mm_alp (by assumption) | exact mm_arp (by assumption) | exact mm_cpi (by assumption) | exact mm_cpr (by assumption))
theorem mn_oi {nxt : Nat}  : am_MN (am_oi nxt) := fun L S M x h => by
  unfold am_oi at h
  try unfold am_cq at h
  (repeat' split at h) <;> (try unfold am_nx at h) <;> (try unfold am_done at h) <;> first | (cases h; done) | (cases h; exact ⟨Nat.le_refl _, Nat.le_refl _⟩) | (cases h; exact ⟨Nat.le_add_right _ _, Nat.le_add_right _ _⟩) | (cases h; first | exact mm_fp (by assumption) | exact mm_ap (by assumption) | exact mm_alp (by assumption) | exact mm_arp (by assumption) | exact mm_cpi (by assumption) | exact mm_cpr (by assumption))
theorem mn_mi {nxt : Nat} {f : Int32 → Int32 → Int32} : am_MN (am_mi f nxt) := fun L S M x h => by
  unfold am_mi at h
  try unfold am_cq at h
  (repeat' split at h) <;> (try unfold am_nx at h) <;> (try unfold am_done at h) <;> first | (cases h; done) | (cases h; exact ⟨Nat.le_refl _, Nat.le_refl _⟩) | (cases h; exact ⟨Nat.le_add_right _ _, Nat.le_add_right _ _⟩) | (cases h; first | exact mm_fp (by assumption) | exact mm_ap (by assumption) | exact mm_alp (by assumption) | exact mm_arp (by assumption) | exact mm_cpi (by assumption) | exact mm_cpr (by assumption))
theorem mn_ml {nxt : Nat} {f : Int64 → Int64 → Int64} : am_MN (am_ml f nxt) := fun L S M x h => by
  unfold am_ml at h
  try unfold am_cq at h
  (repeat' split at h) <;> (try unfold am_nx at h) <;> (try unfold am_done at h) <;> first | (cases h; done) | (cases h; exact ⟨Nat.le_refl _, Nat.le_refl _⟩) | (cases h; exact ⟨Nat.le_add_right _ _, Nat.le_add_right _ _⟩) | (cases h; first | exact mm_fp (by assumption) | exact mm_ap (by assumption) | exact mm_alp (by assumption) | exact mm_arp (by assumption) | exact mm_cpi (by assumption) | exact mm_cpr (by assumption))
theorem mn_cpyi {nxt : Nat} {t : Nat} : am_MN (am_cpyi t nxt) := fun L S M x h => by
  unfold am_cpyi at h
  try unfold am_cq at h
  (repeat' split at h) <;> (try unfold am_nx at h) <;> (try unfold am_done at h) <;> first | (cases h; done) | (cases h; exact ⟨Nat.le_refl _, Nat.le_refl _⟩) | (cases h; exact ⟨Nat.le_add_right _ _, Nat.le_add_right _ _⟩) | (cases h; first | exact mm_fp (by assumption) | exact mm_ap (by assumption) | exact mm_alp (by assumption) | exact mm_arp (by assumption) | exact mm_cpi (by assumption) | exact mm_cpr (by assumption))
theorem mn_cpyr {nxt : Nat} {t : Nat} {cs : List Nat} : am_MN (am_cpyr t cs nxt) := fun L S M x h => by
  unfold am_cpyr at h
  try unfold am_cq at h
  (repeat' split at h) <;> (try unfold am_nx at h) <;> (try unfold am_done at h) <;> first | (cases h; done) | (cases h; exact ⟨Nat.le_refl _, Nat.le_refl _⟩) | (cases h; exact ⟨Nat.le_add_right _ _, Nat.le_add_right _ _⟩) | (cases h; first | exact mm_fp (by assumption) | exact mm_ap (by assumption) | exact mm_alp (by assumption) | exact mm_arp (by assumption) | exact mm_cpi (by assumption) | exact mm_cpr (by assumption))
theorem mn_gc {nxt : Nat}  : am_MN (am_gc nxt) := fun L S M x h => by
  unfold am_gc at h
  try unfold am_cq at h
  (repeat' split at h) <;> (try unfold am_nx at h) <;> (try unfold am_done at h) <;> first | (cases h; done) | (cases h; exact ⟨Nat.le_refl _, Nat.le_refl _⟩) | (cases h; exact ⟨Nat.le_add_right _ _, Nat.le_add_right _ _⟩) | (cases h; first | exact mm_fp (by assumption) | exact mm_ap (by assumption) | exact mm_alp (by assumption) | exact mm_arp (by assumption) | exact mm_cpi (by assumption) | exact mm_cpr (by assumption))
theorem mn_bldx {nxt : Nat}  : am_MN (am_bldx nxt) := fun L S M x h => by
  unfold am_bldx at h
  try unfold am_cq at h
  (repeat' split at h) <;> (try unfold am_nx at h) <;> (try unfold am_done at h) <;> first | (cases h; done) | (cases h; exact ⟨Nat.le_refl _, Nat.le_refl _⟩) | (cases h; exact ⟨Nat.le_add_right _ _, Nat.le_add_right _ _⟩) | (cases h; first | exact mm_fp (by assumption) | exact mm_ap (by assumption) | exact mm_alp (by assumption) | exact mm_arp (by assumption) | exact mm_cpi (by assumption) | exact mm_cpr (by assumption))
theorem am_run_mn {T : Nat → Option am_S} {hs : List (Nat × Nat × Nat × List Nat)} {call : Nat → List Value → am_M → Option am_O} (hT : ∀ pc f, T pc = some f → am_MN f) (hc : ∀ y av M o, call y av M = some o → M.1 ≤ o.2.1 ∧ M.2.1 ≤ o.2.2.1) : ∀ (n pc : Nat) (L : am_L) (S : List Value) (M : am_M) (o : am_O), am_run T hs call n pc L S M = some o → M.1 ≤ o.2.1 ∧ M.2.1 ≤ o.2.2.1 := by
  intro n
  induction n with
  | zero => intro pc L S M o h; simp [am_run] at h
  | succ n ih =>
    intro pc L S M o h
    rw [am_run] at h
    split at h
    · cases h
    · rename_i f hf
      have hs := hT pc f hf L S M
      split at h
      · cases h
      · rename_i pc' L' S' M' he
        obtain ⟨a1, a2⟩ := hs _ he
        obtain ⟨b1, b2⟩ := ih _ _ _ _ _ h
        exact ⟨Nat.le_trans a1 b1, Nat.le_trans a2 b2⟩
      · rename_i v M' he
        cases h
        exact hs _ he
      · rename_i q M' he
        obtain ⟨a1, a2⟩ := hs _ he
        split at h
        · cases h
          exact ⟨a1, a2⟩
        · obtain ⟨b1, b2⟩ := ih _ _ _ _ _ h
          exact ⟨Nat.le_trans a1 b1, Nat.le_trans a2 b2⟩
      · rename_i y av b nxt L' rest M' he
        obtain ⟨a1, a2⟩ := hs _ he
        split at h
        · cases h
        · rename_i v M2 hcall
          obtain ⟨c1, c2⟩ := hc _ _ _ _ hcall
          split at h
          · obtain ⟨b1, b2⟩ := ih _ _ _ _ _ h
            exact ⟨Nat.le_trans a1 (Nat.le_trans c1 b1), Nat.le_trans a2 (Nat.le_trans c2 b2)⟩
          · cases h
        · rename_i q M2 hcall
          obtain ⟨c1, c2⟩ := hc _ _ _ _ hcall
          split at h
          · cases h
            exact ⟨Nat.le_trans a1 c1, Nat.le_trans a2 c2⟩
          · obtain ⟨b1, b2⟩ := ih _ _ _ _ _ h
            exact ⟨Nat.le_trans a1 (Nat.le_trans c1 b1), Nat.le_trans a2 (Nat.le_trans c2 b2)⟩
theorem am_call_mn (hT : ∀ y pc f, am_T y pc = some f → am_MN f) : ∀ (d y : Nat) (av : List Value) (M : am_M) (o : am_O), am_call d y av M = some o → M.1 ≤ o.2.1 ∧ M.2.1 ≤ o.2.2.1 := by
  intro d
  induction d with
  | zero => intro y av M o h; simp [am_call] at h
  | succ d ih =>
    intro y av M o h
    obtain ⟨-, n, hn⟩ := am_call_iff'.mp h
    exact am_run_mn (hT y) ih n _ _ _ _ _ hn
/-- a method's rows, by AM's own laws -/
def am_ok (f : am_S) : Prop := am_SC f ∧ am_MN f
/-- how what a method throws goes on -/
def as_HX (y : Nat) (yn : MethodName) (cc : ByteArray) (mx : Nat) (rt : Option FieldType) (hh : List (Nat × Nat × Nat × Nat)) : Prop := ∀ (p : Program) (l : Launch) (e : Env) (R : Room) (s : State) (m : MethodId) (args : Array Value) (below : List Frame) (meth : Method) (c : Code) (G : as_P) (M0 : am_M) (o : am_O) (r0 : Nat → Nat) (d : Nat), as_C p l e R s m args below meth c G M0 o r0 d yn cc mx rt hh → ∀ (pc : Nat) (L : am_L) (q : Nat) (M : am_M),
  (∀ h, am_hfind (am_hs y) pc (am_cls M q) = some h → h = 100000 ∨ (as_J p l e R s m args below meth c G M0 o r0 mx h L [.ref q] M → as_JX p l e R s m args below meth c G M0 o r0 mx pc L q M)) ∧ (am_hfind (am_hs y) pc (am_cls M q) = none → o = (.inr q, M) → as_JX p l e R s m args below meth c G M0 o r0 mx pc L q M)
def as_good (Y : Nat → Option as_D) (y : Nat) (D : as_D) : Prop := plainName D.1.cls = true ∧ ((D.2.2.2.2 = [] ∧ Cond.code D.1 D.2.1 D.2.2.1 D.2.2.2.1 ∈ lw_all) ∨ (D.2.2.2.2 ≠ [] ∧ Cond.codeWith D.1 D.2.1 D.2.2.1 D.2.2.2.1 D.2.2.2.2 ∈ lw_all)) ∧ D.2.2.1 = am_mx y ∧ am_T y 100000 = none ∧ (∀ pc f, am_T y pc = some f → as_OK Y D.1 D.2.1 D.2.2.1 D.2.2.2.1 D.2.2.2.2 pc f) ∧ as_HX y D.1 D.2.1 D.2.2.1 D.2.2.2.1 D.2.2.2.2
section ASM
variable {p : Program} {l : Launch} {e : Env} {R : Room} {s : State} {m : MethodId} {args : Array Value} {below : List Frame} {meth : Method} {c : Code} {G : as_P} {d : Nat} {M0 : am_M} {o : am_O} {r0 : Nat → Nat} {yn : MethodName} {cc : ByteArray} {mx : Nat} {rt : Option FieldType} {hh : List (Nat × Nat × Nat × Nat)} {Y : Nat → Option as_D} {y : Nat}
theorem as_Zr (M : am_M) : as_Z M (o.1, M) := ⟨Nat.le_refl _, Nat.le_refl _, Nat.le_refl _⟩
/-- past the method's own rows -/
theorem as_past {pc q : Nat} {L : am_L} {M : am_M} (hC : as_C p l e R s m args below meth c G M0 o r0 d yn cc mx rt hh) (hout : ∀ x ∈ c.exceptionTable.toList, covers x pc = false) (ho : o = (.inr q, M)) : as_JX p l e R s m args below meth c G M0 o r0 mx pc L q M := by
  obtain ⟨hx, hcc, hr, hml, hts, hown, hlocks, hname, htr, hF, hR, htab⟩ := hC
  subst ho
  refine ⟨⟨Nat.le_refl _, Nat.le_refl _, Nat.le_refl _⟩, fun r H locs ls rest ce hW hr hS hL hY hce hcv hcl => ?_⟩
  refine vx_out hout hlocks hce hcv hcl (fun t ht _ => ⟨⟨q, r, rfl, by rw [ht]; exact hW, hr, rfl, rfl⟩, ?_⟩) hS.2.2 (Nat.le_refl _) (Nat.le_refl _)
  unfold va_F
  rw [ht]
  exact ⟨hS.1, hS.2.1⟩
theorem as_HX0 (hy : am_hs y = []) : as_HX y yn cc mx rt [] := by
  intro p l e R s m args below meth c G M0 o r0 d hC pc L q M
  have hf : ∀ c, am_hfind (am_hs y) pc c = none := fun c => by rw [hy]; rfl
  refine ⟨fun h hh => (by rw [hf] at hh; cases hh), fun _ ho => as_past hC (fun x hx => ?_) ho⟩
  obtain ⟨-, -, -, -, -, -, -, -, -, -, -, htab⟩ := hC
  rw [htab] at hx
  cases hx
/-- caught by the first row, of the class cl; all other rows stop AM -/
theorem as_HX1 {own : String} {a b h ct cl : Nat} {rest : List (Nat × Nat × Nat × Nat)} (ho : own = yn.cls) (hy : am_hs y = (a, b, h, [cl]) :: (a, b, 100000, []) :: rest.map (fun q => (q.1, q.2.1, 100000, []))) (h0 : ct ≠ 0) (hlink : Cond.classLink own ct (as_ex cl) ∈ lw_all) (hcast : (as_ex cl, as_ex cl) ∈ as_nwC) : as_HX y yn cc mx rt ((a, b, h, ct) :: rest) := by
  intro p l e R s m args below meth c G M0 o r0 d hC pc L q M
  refine ⟨fun h' hh => ?_, fun hh ho2 => as_past hC (fun x hx => ?_) ho2⟩
  · unfold am_hfind at hh
    rw [hy, List.find?_cons] at hh
    split at hh
    · rename_i hc
      right
      have e : h = h' := by simpa using hh
      subst e
      simp only [List.isEmpty_cons, Bool.or_false, Bool.and_eq_true, decide_eq_true_eq] at hc
      have ecl : am_cls M q = cl := by simpa using hc.2
      obtain ⟨hx, hcc, hr, hml, hts, hown, hlocks, hname, htr, hF, hR, htab⟩ := hC
      intro hj
      refine ⟨hj.1, fun r H locs ls rest2 ce hW hr hS hL hY hce hcv hcl => ?_⟩
      exact vx_catch (own := own) (name := as_ex cl) (E := as_ex (am_cls M q)) (by rw [ho]; exact hown) [] ⟨a, b, h, ct⟩ (tableOf rest) (by rw [htab]; rfl) (fun z hz => by cases hz) (by simp [covers, hc.1.1, hc.1.2]) h0 (hts _ hlink) (by rw [ecl]; exact va_Nw.use rfl (hF.2.2.2.1 _ hcast)) hce hcv hcl (hj.2 r H locs ls hW hr hS hL hY)
    · left
      obtain ⟨z, hz, rfl⟩ := Option.map_eq_some_iff.mp hh
      rcases List.mem_cons.mp (List.mem_of_find?_eq_some hz) with rfl | hz2
      · rfl
      · obtain ⟨w, -, rfl⟩ := List.mem_map.mp hz2
        rfl
  · obtain ⟨-, -, -, -, -, -, -, -, -, -, -, htab⟩ := hC
    rw [htab] at hx
    obtain ⟨w, hw, rfl⟩ := List.mem_map.mp hx
    have hn : (am_hs y).find? (fun h => decide (h.1 ≤ pc) && decide (pc < h.2.1) && (h.2.2.2.contains (am_cls M q) || h.2.2.2.isEmpty)) = none := Option.map_eq_none_iff.mp hh
    rw [hy] at hn
    have hn2 := List.find?_eq_none.mp hn
    have key : ∀ a' b' : Nat, (a', b', 100000, ([] : List Nat)) ∈ (a, b, h, [cl]) :: (a, b, 100000, []) :: rest.map (fun q => (q.1, q.2.1, 100000, [])) → (decide (a' ≤ pc) && decide (pc < b')) = false := fun a' b' hm => by
      have := hn2 _ hm
      simpa using this
    have k2 : (decide (w.1 ≤ pc) && decide (pc < w.2.1)) = false := by
      rcases List.mem_cons.mp hw with rfl | hw
      · exact key _ _ (List.mem_cons_of_mem _ List.mem_cons_self)
      · exact key _ _ (List.mem_cons_of_mem _ (List.mem_cons_of_mem _ (List.mem_map.mpr ⟨w, hw, rfl⟩)))
    simpa [covers] using k2
/-- along a run -/
theorem as_runs (hK : as_Ks G l Y d) (hC : as_C p l e R s m args below meth c G M0 o r0 d yn cc mx rt hh) (hT : ∀ pc f, am_T y pc = some f → am_SC f) (hTk : ∀ pc f, am_T y pc = some f → as_OK Y yn cc mx rt hh pc f) (hno : am_T y 100000 = none) (hX : as_HX y yn cc mx rt hh) (hcl : ∀ y av M o, am_cM M → (∀ v ∈ av, am_cv (am_len M) v) → am_call d y av M = some o → am_RO M o) :
    ∀ (n pc : Nat) (L : am_L) (S : List Value) (M : am_M), am_Cl L S M → am_run (am_T y) (am_hs y) (am_call d) n pc L S M = some o → as_J p l e R s m args below meth c G M0 o r0 mx pc L S M := by
  intro n
  induction n with
  | zero => intro pc L S M _ h; simp [am_run] at h
  | succ n ih =>
    intro pc L S M hCl h
    have hdead : ∀ L' S' M', ¬ am_run (am_T y) (am_hs y) (am_call d) n 100000 L' S' M' = some o := by
      intro L' S' M' hz
      cases n with
      | zero => simp [am_run] at hz
      | succ n => simp [am_run, hno] at hz
    rw [am_run] at h
    split at h
    · cases h
    · rename_i f hf
      have hs := hT pc f hf L S M hCl
      have hk := hTk pc f hf p l e R s m args below meth c G M0 o r0 d hK hC L S M hCl
      split at h
      · cases h
      · rename_i pc' L' S' M' he
        rw [he] at hs hk
        exact hk (ih _ _ _ _ hs.1 h)
      · rename_i v M' he
        rw [he] at hs hk
        exact hk (Option.some.inj h).symm
      · rename_i q M' he
        rw [he] at hs hk
        obtain ⟨x1, x2⟩ := hX p l e R s m args below meth c G M0 o r0 d hC pc L q M'
        split at h
        · rename_i hf2
          exact hk (x2 hf2 (Option.some.inj h).symm)
        · rename_i t hf2
          rcases x1 t hf2 with rfl | x1
          · exact absurd h (hdead _ _ _)
          · exact hk (x1 (ih _ _ _ _ ⟨hs.1, fun k v hk => (hCl.2.1 k v hk).mono hs.2.2, sc_c (am_cv_ref hs.2.1) (fun v hv => by cases hv)⟩ h))
      · rename_i y' av b nxt L' rest M' he
        rw [he] at hs hk
        obtain ⟨rfl, rfl, h3, h4⟩ := hs
        obtain ⟨-, hk⟩ := hk
        split at h
        · cases h
        · rename_i v M2 hcall
          obtain ⟨b1, b2, b3⟩ := hcl _ _ _ _ hCl.1 h3 hcall
          split at h
          · rename_i hb
            exact hk _ hcall hb (ih _ _ _ _ ⟨b1, fun k v hk => (hCl.2.1 k v hk).mono b2, fun w hw => (List.mem_append.mp hw).elim (fun hw => b3 w (by cases v with | none => cases hw | some z => simp at hw; rw [hw])) (fun hw => (h4 w hw).mono b2)⟩ h)
          · cases h
        · rename_i q M2 hcall
          obtain ⟨b1, b2, b3⟩ := hcl _ _ _ _ hCl.1 h3 hcall
          obtain ⟨x1, x2⟩ := hX p l e R s m args below meth c G M0 o r0 d hC pc L' q M2
          split at h
          · rename_i hf2
            exact hk _ hcall (x2 hf2 (Option.some.inj h).symm)
          · rename_i t hf2
            rcases x1 t hf2 with rfl | x1
            · exact absurd h (hdead _ _ _)
            · exact hk _ hcall (x1 (ih _ _ _ _ ⟨b1, fun k v hk => (hCl.2.1 k v hk).mono b2, sc_c (am_cv_ref b3) (fun v hv => by cases hv)⟩ h))
/-- the locals a method begins with -/
def as_fl1 (v : Value) : List (Option Value) := match v with
  | .long _ => [some v, none]
  | .double _ => [some v, none]
  | _ => [some v]
theorem as_fl1_key {n : Nat} {av : List Value} (f : Value → List (Option Value)) (hf : ∀ v, f v = as_fl1 v) : (let l := av.flatMap f; l ++ List.replicate (n - l.length) none) = av.flatMap as_fl1 ++ List.replicate (n - (av.flatMap as_fl1).length) none := by
  have e : f = as_fl1 := funext hf
  subst e
  rfl
theorem as_fl1_eq {n : Nat} {av : List Value} : am_init n av = av.flatMap as_fl1 ++ List.replicate (n - (av.flatMap as_fl1).length) none := as_fl1_key _ (fun v => by cases v <;> rfl)
theorem as_fl1_2 {w : Value} (h : w.category = 2) : as_fl1 w = [some w, none] := by
  cases w <;> first | rfl | (simp [Value.category] at h)
theorem as_fl1_1 {w : Value} (h : ¬ w.category = 2) : as_fl1 w = [some w] := by
  cases w <;> first | rfl | (simp [Value.category] at h)
theorem as_ini1 {r : Nat → Nat} {av : List Value} : ∀ (i k : Nat) (v : Value), (av.flatMap as_fl1)[k]? = some (some v) → (i + k, as_v r v) ∈ lv_args i (av.map (as_v r)) := by
  induction av with
  | nil => intro i k v h; simp at h
  | cons w av ih =>
    intro i k v h
    rw [List.flatMap_cons] at h
    by_cases hw : w.category = 2
    · rw [as_fl1_2 hw] at h
      simp only [List.map_cons, lv_args, as_v_cat, hw, if_true]
      match k, h with
      | 0, h =>
        have e : w = v := by simpa using h
        rw [e]
        exact List.mem_cons_self
      | 1, h => simp at h
      | k + 2, h =>
        have h2 : (av.flatMap as_fl1)[k]? = some (some v) := by simpa using h
        have := ih (i + 2) k v h2
        rw [show i + (k + 2) = i + 2 + k by omega]
        exact List.mem_cons_of_mem _ this
    · rw [as_fl1_1 hw] at h
      simp only [List.map_cons, lv_args, as_v_cat, hw, if_false]
      match k, h with
      | 0, h =>
        have e : w = v := by simpa using h
        rw [e]
        exact List.mem_cons_self
      | k + 1, h =>
        have h2 : (av.flatMap as_fl1)[k]? = some (some v) := by simpa using h
        have := ih (i + 1) k v h2
        rw [show i + (k + 1) = i + 1 + k by omega]
        exact List.mem_cons_of_mem _ this
theorem as_ini2 {r : Nat → Nat} {av : List Value} : (lg_sl (av.map (as_v r))).length = (av.flatMap as_fl1).length := by
  induction av with
  | nil => rfl
  | cons w av ih =>
    have e : lg_sl ((w :: av).map (as_v r)) = (if (as_v r w).category = 2 then [.val (as_v r w), .second] else [.val (as_v r w)]) ++ lg_sl (av.map (as_v r)) := rfl
    rw [e, List.flatMap_cons, List.length_append, List.length_append, ih, as_v_cat]
    by_cases hw : w.category = 2
    · rw [if_pos hw, as_fl1_2 hw]; rfl
    · rw [if_neg hw, as_fl1_1 hw]; rfl
theorem as_entry {r0 : Nat → Nat} {av : List Value} (hlen : (am_init mx av).length = mx) : ∃ ls, entryFrame m (av.map (as_v r0)).toArray mx = F0 m 0 ls [] ∧ as_L r0 ls mx (am_init mx av) := by
  have hl : (av.flatMap as_fl1).length ≤ mx := by
    rw [as_fl1_eq, List.length_append, List.length_replicate] at hlen
    omega
  refine ⟨_, lg_entry_eq m (av.map (as_v r0)) mx, as_L.mono hlen (lv_entry (av.map (as_v r0)) (by rw [as_ini2]; exact hl)) (fun k v hk => ?_)⟩
  rw [as_fl1_eq] at hk
  by_cases hkl : k < (av.flatMap as_fl1).length
  · rw [List.getElem?_append_left hkl] at hk
    have := as_ini1 (r := r0) 0 k v hk
    rwa [Nat.zero_add] at this
  · rw [List.getElem?_append_right (by omega)] at hk
    have := List.eq_of_mem_replicate (List.mem_of_getElem? hk)
    cases this
theorem as_main (hl : l.stackTraces = false) (hok : ∀ y pc f, am_T y pc = some f → am_ok f) (hY : ∀ y D, Y y = some D → as_good Y y D) : ∀ d, as_Ks G l Y d := by
  intro d
  induction d with
  | zero => intro y D _ av M o _ _ h; simp [am_call] at h
  | succ d ih =>
    intro y D hD av M o hM hav h
    obtain ⟨hpn, hcode, hmx, hno, hTk, hX⟩ := hY y D hD
    obtain ⟨yn, cc, mx, rt, hh⟩ := D
    dsimp only at hpn hcode hmx hno hTk hX ⊢
    have hcl := am_call_cl (fun y pc f hf => (hok y pc f hf).1)
    have z1 := am_call_mn (fun y pc f hf => (hok y pc f hf).2) _ _ _ _ _ h
    have z2 : am_RO M o := hcl _ _ _ _ _ hM hav h
    obtain ⟨hlen, n, hn⟩ := am_call_iff'.mp h
    rw [← hmx] at hlen hn
    have hZ : as_Z M o := ⟨z1.1, z1.2, z2.2.1⟩
    refine ⟨hZ, fun r0 => ?_⟩
    have hbody : ∀ (p : Program) (e : Env) (R : Room) (s : State) (m : MethodId) (args : Array Value) (below : List Frame) (meth : Method) (c : Code), args = (av.map (as_v r0)).toArray → as_W G r0 M s.heap → as_C p l e R s m args below meth c G M o r0 d yn cc mx rt hh → W p l e R s m args below meth c s.heap [] 0 0 (as_Q p l e R s m args below meth c G M o r0) (entryFrame m args mx) := by
      intro p e R s m args below meth c ha hW hC
      obtain ⟨ls, e1, e2⟩ := as_entry (m := m) (r0 := r0) hlen
      have hj := as_runs (y := y) ih hC (fun pc f hf => (hok y pc f hf).1) hTk hno hX (fun y av M o => hcl d y av M o) n 0 _ _ _ ⟨hM, am_init_cl hav, fun v hv => by cases hv⟩ hn
      have hw := hj.2 r0 s.heap [] ls hW (fun _ _ => rfl) ⟨Nat.le_refl _, fun _ _ _ => rfl, fun z hz => by cases hz⟩ e2 ⟨Nat.le_refl _, Nat.le_refl _, Nat.le_refl _⟩
      rw [Nat.sub_self, Nat.sub_self] at hw
      rw [ha, e1]
      rw [ha] at hw
      exact hw
    rcases hcode with ⟨rfl, hcode⟩ | ⟨hne, hcode⟩
    · refine vx_ofW hpn rfl (fun p e s m args below meth c s₁ B hml ht hP => ?_)
      obtain ⟨ha, hW, hF⟩ := hP
      refine hbody p e _ s m args below meth c ha hW ⟨B.exec, B.bytes, B.returns, hml, fun w hw => atoms_spec (ws := as_ws yn cc mx rt []) B.pre _ (List.mem_cons_of_mem _ hw), findClass_of_methodNamed B.named, B.notSynchronized, (name_of_methodNamed B.named B.method).1, hl, hF, ⟨Nat.le_refl _, Nat.le_refl _, Nat.le_refl _, ?_⟩, ?_⟩
      · show 12000 + 40 * (d + 1) ≤ 12000 + 40 * (d + 1)
        exact Nat.le_refl _
      · show c.exceptionTable.toList = []
        rcases hz : c.exceptionTable.toList with _ | ⟨x, t⟩
        · rfl
        · exact (ht x (by rw [hz]; exact List.mem_cons_self)).elim
    · have hws : as_ws yn cc mx rt hh = Cond.codeWith yn cc mx rt hh :: lw_all := by
        unfold as_ws
        cases hh with
        | nil => exact absurd rfl hne
        | cons a b => rfl
      refine vx_ofWH hpn hws (fun p e s m args below meth c s₁ B hml hP => ?_)
      obtain ⟨ha, hW, hF⟩ := hP
      have hat := atoms_spec (ws := as_ws yn cc mx rt hh) B.pre
      rw [hws] at hat
      refine hbody p e _ s m args below meth c ha hW ⟨B.exec, B.bytes, B.returns, hml, fun w hw => hat _ (List.mem_cons_of_mem _ hw), findClass_of_methodNamed B.named, B.notSynchronized, (name_of_methodNamed B.named B.method).1, hl, hF, ⟨Nat.le_refl _, Nat.le_refl _, Nat.le_refl _, ?_⟩, vx_table (x := yn) B (hat _ List.mem_cons_self)⟩
      show 12000 + 40 * (d + 1) ≤ 12000 + 40 * (d + 1)
      exact Nat.le_refl _
end ASM
