set_option maxRecDepth 100000
/-! the component's words: what each means -/
section C
variable {κ : gK} {F : Nat} {σ : gS} {ω : Nat → Nat}
def wPut : List Nat := [112, 117, 116]
def wDrop : List Nat := [100, 114, 111, 112]
def wCommit : List Nat := [99, 111, 109, 109, 105, 116]
def wClose : List Nat := [99, 108, 111, 115, 101]
def wBegin : List Nat := [98, 101, 103, 105, 110]
def wAbort : List Nat := [97, 98, 111, 114, 116]
def wOpen : List Nat := [111, 112, 101, 110]
theorem hs_put : hsW 0 wPut = 111375 := by decide
theorem hs_drop : hsW 0 wDrop = 3092207 := by decide
theorem hs_commit : hsW 0 wCommit = -1354815177 := by decide
theorem hs_close : hsW 0 wClose = 94756344 := by decide
theorem hs_begin : hsW 0 wBegin = 93616297 := by decide
theorem hs_abort : hsW 0 wAbort = 92611376 := by decide
theorem hs_open : hsW 0 wOpen = 3417674 := by decide
theorem cmdW_no {w : List Nat} (h : cmdW w = 0) : w ≠ wPut ∧ w ≠ wDrop ∧ w ≠ wCommit ∧ w ≠ wClose ∧ w ≠ wBegin ∧ w ≠ wAbort ∧ w ≠ wOpen := by
  refine ⟨?_, ?_, ?_, ?_, ?_, ?_, ?_⟩ <;> (intro e; subst e; revert h; decide)
theorem cmdW_cs (w : List Nat) : cmdW w = 0 ∨ (w = wBegin ∧ cmdW w = 1) ∨ (w = wPut ∧ cmdW w = 2) ∨ (w = wDrop ∧ cmdW w = 3) ∨ (w = wCommit ∧ cmdW w = 4) ∨ (w = wAbort ∧ cmdW w = 5) ∨ (w = wOpen ∧ cmdW w = 6) ∨ (w = wClose ∧ cmdW w = 7) := by
  by_cases h0 : w = wBegin
  · subst h0; exact Or.inr (Or.inl ⟨rfl, rfl⟩)
  by_cases h1 : w = wPut
  · subst h1; exact Or.inr (Or.inr (Or.inl ⟨rfl, rfl⟩))
  by_cases h2 : w = wDrop
  · subst h2; exact Or.inr (Or.inr (Or.inr (Or.inl ⟨rfl, rfl⟩)))
  by_cases h3 : w = wCommit
  · subst h3; exact Or.inr (Or.inr (Or.inr (Or.inr (Or.inl ⟨rfl, rfl⟩))))
  by_cases h4 : w = wAbort
  · subst h4; exact Or.inr (Or.inr (Or.inr (Or.inr (Or.inr (Or.inl ⟨rfl, rfl⟩)))))
  by_cases h5 : w = wOpen
  · subst h5; exact Or.inr (Or.inr (Or.inr (Or.inr (Or.inr (Or.inr (Or.inl ⟨rfl, rfl⟩))))))
  by_cases h6 : w = wClose
  · subst h6; exact Or.inr (Or.inr (Or.inr (Or.inr (Or.inr (Or.inr (Or.inr ⟨rfl, rfl⟩))))))
  · left
    show (if w = wBegin then 1 else if w = wPut then 2 else if w = wDrop then 3 else if w = wCommit then 4 else if w = wAbort then 5 else if w = wOpen then 6 else if w = wClose then 7 else 0) = 0
    rw [if_neg h0, if_neg h1, if_neg h2, if_neg h3, if_neg h4, if_neg h5, if_neg h6]
/-- a string that may be asked -/
def SQ (κ : gK) (σ : gS) (ω : Nat → Nat) (a : Nat) (w : List Nat) : Prop := ∃ v h z, STR κ σ ω a v h z w ∧ HZ h z w ∧ w.length ≤ 150 ∧ ∀ k, k < w.length → w.getD k 0 < 128
theorem sq_ck {a : Nat} {w : List Nat} (h : SQ κ σ ω a w) : gck σ (some a) 16 = some () := by obtain ⟨v, hh, z, q, _⟩ := h; exact (str_f q).1
theorem sq_eq (hF : 200 ≤ F) {a : Nat} {w : List Nat} (h : SQ κ σ ω a w) (hq : KQ κ σ ω) : ∀ p ∈ wdL, f_J4_equals κ F (some a) (κ.2 p.1) σ = some (if w = p.2 then 1 else 0, σ) := by
  obtain ⟨v, hh, z, q, _, hl, hw⟩ := h
  intro p hp
  have hp2 : (∀ k, k < p.2.length → p.2.getD k 0 < 128) ∧ p.2.length < 1000 := by
    simp only [wdL, List.mem_cons, List.not_mem_nil, or_false] at hp
    rcases hp with rfl | rfl | rfl | rfl | rfl | rfl | rfl <;> (refine ⟨?_, by decide⟩; decide)
  exact t_equals hF q (hq.2 p hp) hl hw hp2.1 hp2.2
theorem sq_put (hF : 200 ≤ F) {a : Nat} {w : List Nat} (h : SQ κ σ ω a w) (hq : KQ κ σ ω) : f_J4_equals κ F (some a) (κ.2 10) σ = some (if w = wPut then 1 else 0, σ) := sq_eq hF h hq (10, wPut) (by decide)
theorem sq_drop (hF : 200 ≤ F) {a : Nat} {w : List Nat} (h : SQ κ σ ω a w) (hq : KQ κ σ ω) : f_J4_equals κ F (some a) (κ.2 11) σ = some (if w = wDrop then 1 else 0, σ) := sq_eq hF h hq (11, wDrop) (by decide)
theorem sq_commit (hF : 200 ≤ F) {a : Nat} {w : List Nat} (h : SQ κ σ ω a w) (hq : KQ κ σ ω) : f_J4_equals κ F (some a) (κ.2 12) σ = some (if w = wCommit then 1 else 0, σ) := sq_eq hF h hq (12, wCommit) (by decide)
theorem sq_close (hF : 200 ≤ F) {a : Nat} {w : List Nat} (h : SQ κ σ ω a w) (hq : KQ κ σ ω) : f_J4_equals κ F (some a) (κ.2 13) σ = some (if w = wClose then 1 else 0, σ) := sq_eq hF h hq (13, wClose) (by decide)
theorem sq_begin (hF : 200 ≤ F) {a : Nat} {w : List Nat} (h : SQ κ σ ω a w) (hq : KQ κ σ ω) : f_J4_equals κ F (some a) (κ.2 14) σ = some (if w = wBegin then 1 else 0, σ) := sq_eq hF h hq (14, wBegin) (by decide)
theorem sq_abort (hF : 200 ≤ F) {a : Nat} {w : List Nat} (h : SQ κ σ ω a w) (hq : KQ κ σ ω) : f_J4_equals κ F (some a) (κ.2 15) σ = some (if w = wAbort then 1 else 0, σ) := sq_eq hF h hq (15, wAbort) (by decide)
theorem sq_open (hF : 200 ≤ F) {a : Nat} {w : List Nat} (h : SQ κ σ ω a w) (hq : KQ κ σ ω) : f_J4_equals κ F (some a) (κ.2 16) σ = some (if w = wOpen then 1 else 0, σ) := sq_eq hF h hq (16, wOpen) (by decide)
theorem sq_hash (hF : 200 ≤ F) {a : Nat} {w : List Nat} (h : SQ κ σ ω a w) : ∃ σ', f_J4_hashCode κ F (some a) σ = some (hsW 0 w, σ') ∧ ext e11 0 0 σ ω σ' ω ∧ SQ κ σ' ω a w := by
  obtain ⟨v, hh, z, q, hz, hl, hw⟩ := h
  obtain ⟨σ', h', z', q1, q2, q3, q4⟩ := t_hash hF q hz hl hw
  exact ⟨σ', q1, q2, v, h', z', q3, q4, hl, hw⟩
theorem t_numbersOf (hF : 200 ≤ F) {a : Nat} {w : List Nat} (h : SQ κ σ ω a w) (hq : KQ κ σ ω) : ∃ σ', f_X1_numbersOf κ F (some a) σ = some (if cmdW w = 0 then -1000 else Int32.ofNat (nNum (cmdW w)), σ') ∧ ext e11 0 0 σ ω σ' ω ∧ SQ κ σ' ω a w := by
  obtain ⟨S1, q1, q2, q3⟩ := sq_hash hF h
  have hq1 := KQ_mv hq q2 (by unfold e11; omega)
  refine ⟨S1, ?_, q2, q3⟩
  rw [f_X1_numbersOf, f_X1_numbersOf_0, sq_ck h, gB1_s, q1, gB2_s]
  simp only [sq_ck q3, gB1_s, sq_put hF q3 hq1, sq_drop hF q3 hq1, sq_commit hF q3 hq1, sq_close hF q3 hq1, sq_begin hF q3 hq1, sq_abort hF q3 hq1, sq_open hF q3 hq1, gB2_s]
  rcases cmdW_cs w with e | ⟨e, ec⟩ | ⟨e, ec⟩ | ⟨e, ec⟩ | ⟨e, ec⟩ | ⟨e, ec⟩ | ⟨e, ec⟩ | ⟨e, ec⟩
  · obtain ⟨n1, n2, n3, n4, n5, n6, n7⟩ := cmdW_no e
    rw [if_pos e]
    simp only [n1, n2, n3, n4, n5, n6, n7, if_false, eq_self, if_true]
    have hd : f_X1_numbersOf_172 κ F (-1) S1 = some (-1000, S1) := by
      rw [f_X1_numbersOf_172]
      rfl
    rw [hd]
    repeat' split
    all_goals rfl
  · rw [ec]; subst e; rw [hs_begin]; rfl
  · rw [ec]; subst e; rw [hs_put]; rfl
  · rw [ec]; subst e; rw [hs_drop]; rfl
  · rw [ec]; subst e; rw [hs_commit]; rfl
  · rw [ec]; subst e; rw [hs_abort]; rfl
  · rw [ec]; subst e; rw [hs_open]; rfl
  · rw [ec]; subst e; rw [hs_close]; rfl
end C
