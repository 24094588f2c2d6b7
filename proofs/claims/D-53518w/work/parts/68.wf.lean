/-! THE GARDEN's invariants: every version that can be read (now's, an open reader's, the draft's) stands in beds that are not dug -/
def srt (l : List (Int32 × Int32)) : Prop := l.Pairwise (fun a b => a.1 < b.1)
def okL (l : List (Int32 × Int32)) : Prop := l ≠ [] ∧ l.length ≤ 4 ∧ srt l
def VR (A : aG) (d : Nat) : Prop := d < 32 ∧ ∃ D, aPg A d = .inr D ∧ D.length ≤ 6 ∧ D.Nodup ∧ ∀ b ∈ D, b < 32 ∧ ∃ l, aPg A b = .inl l ∧ okL l
/-- the beds of a version -/
def rch (A : aG) (d b : Nat) : Prop := b = d ∨ b ∈ dirL A d
/-- the beds of the versions that the draft doesn't change -/
def kept (A : aG) (b : Nat) : Prop := rch A (nowD A) b ∨ ∃ k q, k < 4 ∧ aRd A k = some q ∧ rch A q.2 b
def WFs (n : Nat) (A : aG) : Prop := okNow A ∧ (∀ r, r < 2 → ∀ d, (aRt A r).2.1 = some d → d < 32) ∧ (aRt A (cur A)).2.2 = true ∧ 0 ≤ (nowC A).toInt ∧ (nowC A).toInt ≤ n ∧ VR A (nowD A) ∧
  (∀ b, rch A (nowD A) b → aSt A b = 1 ∧ isNew A b = false) ∧
  (∀ k q, k < 4 → aRd A k = some q → q.1 ≤ nowC A ∧ VR A q.2 ∧ ∀ b, rch A q.2 b → (aSt A b = 1 ∨ (aSt A b = 2 ∧ q.1 < aFw A b)) ∧ isNew A b = false)
def WFd (A : aG) (d : aD) : Prop := VR A d.2.2 ∧ (∀ b, rch A d.2.2 b → aSt A b = 1 ∧ d.2.1 b = false) ∧ (anyNew A = true → d.1 d.2.2 = true) ∧ (anyNew A = false → d.2.2 = nowD A) ∧
  (∀ b, b < 32 → d.1 b = true → aSt A b = 1 ∧ d.2.1 b = false) ∧ (∀ b, b < 32 → d.2.1 b = true → aSt A b = 1)
def WF (n : Nat) (A : aG) : Prop := WFs n A ∧ ∀ d, aDr A = some d → WFd A d
theorem VR_okD {A : aG} {d : Nat} (h : VR A d) (hs : ∀ b, rch A d b → aSt A b ≠ 0) : okD A d (dirL A d) := by
  obtain ⟨h1, D, h2, h3, h4, h5⟩ := h
  have e := dirL_of h2
  refine ⟨h1, hs d (Or.inl rfl), by rw [e]; exact h2, fun b hb => ?_⟩
  obtain ⟨b1, l, b2, b3⟩ := h5 b (by rw [← e]; exact hb)
  exact ⟨b1, hs b (Or.inr hb), l, b2, b3.1⟩
theorem rch_lt {A : aG} {d b : Nat} (h : VR A d) (hb : rch A d b) : b < 32 := by
  obtain ⟨h1, D, h2, h3, h4, h5⟩ := h
  rcases hb with rfl | hb
  · exact h1
  · rw [dirL_of h2] at hb
    exact (h5 b hb).1
/-- a version in another garden with the same pages -/
theorem VR_congr {A A' : aG} {d : Nat} (h : VR A d) (hp : ∀ b, rch A d b → aPg A' b = aPg A b) : VR A' d ∧ dirL A' d = dirL A d := by
  obtain ⟨h1, D, h2, h3, h4, h5⟩ := h
  have e := dirL_of h2
  have hd : aPg A' d = .inr D := (hp d (Or.inl rfl)).trans h2
  refine ⟨⟨h1, D, hd, h3, h4, fun b hb => ?_⟩, by rw [dirL_of hd, e]⟩
  obtain ⟨b1, l, b2, b3⟩ := h5 b hb
  exact ⟨b1, l, (hp b (Or.inr (by rw [e]; exact hb))).trans b2, b3⟩
theorem rt_congr {A A' : aG} (hr : A'.2.1 = A.2.1) : cur A' = cur A ∧ nowC A' = nowC A ∧ nowD A' = nowD A ∧ (okNow A' ↔ okNow A) := by
  have h1 : cur A' = cur A := by unfold cur aRt; rw [hr]
  have h2 : nowD A' = nowD A := by unfold nowD aRt; rw [h1, hr]
  refine ⟨h1, by unfold nowC aRt; rw [h1, hr], h2, ?_⟩
  unfold okNow aRt
  rw [h1, h2, hr]
/-- what keeps the kept beds and now's root keeps the invariants of what is kept -/
theorem WFs_pres2 {n : Nat} {A A' : aG} (h : WFs n A) (hc : cur A' = cur A) (hrt : aRt A' (cur A) = aRt A (cur A)) (hlt : ∀ r, r < 2 → ∀ d, (aRt A' r).2.1 = some d → d < 32) (hd : A'.2.2.1 = A.2.2.1) (hk : ∀ b, kept A b → A'.1 b = A.1 b ∧ isNew A' b = isNew A b) : WFs n A' ∧ ∀ b, kept A' b ↔ kept A b := by
  obtain ⟨h1, h2, h3, h4, h5, h6, h7, h8⟩ := h
  have e2 : nowC A' = nowC A := by unfold nowC; rw [hc, hrt]
  have e3 : nowD A' = nowD A := by unfold nowD; rw [hc, hrt]
  have hp : ∀ b, kept A b → aPg A' b = aPg A b ∧ aSt A' b = aSt A b ∧ aFw A' b = aFw A b := fun b hb => by
    unfold aPg aSt aFw
    rw [(hk b hb).1]
    exact ⟨rfl, rfl, rfl⟩
  have v6 := VR_congr (A' := A') h6 (fun b hb => (hp b (Or.inl hb)).1)
  have hrd : ∀ k, aRd A' k = aRd A k := fun k => by unfold aRd; rw [hd]
  have v8 : ∀ k q, k < 4 → aRd A k = some q → VR A' q.2 ∧ dirL A' q.2 = dirL A q.2 := fun k q hk4 hq => VR_congr (h8 k q hk4 hq).2.1 (fun b hb => (hp b (Or.inr ⟨k, q, hk4, hq, hb⟩)).1)
  refine ⟨⟨?_, hlt, by rw [hc, hrt]; exact h3, by rw [e2]; exact h4, by rw [e2]; exact h5, by rw [e3]; exact v6.1, fun b hb => ?_, fun k q hk4 hq => ?_⟩, fun b => ?_⟩
  · unfold okNow at h1 ⊢
    rw [hc, hrt, e3]
    exact h1
  · have hb' : rch A (nowD A) b := by unfold rch at hb ⊢; rw [e3, v6.2] at hb; exact hb
    rw [(hp b (Or.inl hb')).2.1, (hk b (Or.inl hb')).2]
    exact h7 b hb'
  · rw [hrd] at hq
    obtain ⟨a1, a2, a3⟩ := h8 k q hk4 hq
    refine ⟨by rw [e2]; exact a1, (v8 k q hk4 hq).1, fun b hb => ?_⟩
    have hb' : rch A q.2 b := by unfold rch at hb ⊢; rw [(v8 k q hk4 hq).2] at hb; exact hb
    have hkb : kept A b := Or.inr ⟨k, q, hk4, hq, hb'⟩
    rw [(hp b hkb).2.1, (hp b hkb).2.2, (hk b hkb).2]
    exact a3 b hb'
  · unfold kept
    have r1 : rch A' (nowD A') b ↔ rch A (nowD A) b := by unfold rch; rw [e3, v6.2]
    rw [r1]
    constructor
    · rintro (hb | ⟨k, q, hk4, hq, hb⟩)
      · exact Or.inl hb
      · rw [hrd] at hq
        refine Or.inr ⟨k, q, hk4, hq, ?_⟩
        unfold rch at hb ⊢
        rw [(v8 k q hk4 hq).2] at hb
        exact hb
    · rintro (hb | ⟨k, q, hk4, hq, hb⟩)
      · exact Or.inl hb
      · refine Or.inr ⟨k, q, hk4, by rw [hrd]; exact hq, ?_⟩
        unfold rch at hb ⊢
        rw [(v8 k q hk4 hq).2]
        exact hb
theorem WFs_pres {n : Nat} {A A' : aG} (h : WFs n A) (hr : A'.2.1 = A.2.1) (hd : A'.2.2.1 = A.2.2.1) (hk : ∀ b, kept A b → A'.1 b = A.1 b ∧ isNew A' b = isNew A b) : WFs n A' ∧ ∀ b, kept A' b ↔ kept A b :=
  WFs_pres2 h (rt_congr hr).1 (by unfold aRt; rw [hr]) (fun r hr2 d => by unfold aRt; rw [hr]; exact h.2.1 r hr2 d) hd hk
theorem mn_le1 (a b : Int32) : mn a b ≤ a := by
  unfold mn
  split
  · exact Int32.le_of_lt (by assumption)
  · exact Int32.le_refl _
theorem mn_le2 (a b : Int32) : mn a b ≤ b := by
  unfold mn
  split
  · exact Int32.le_refl _
  · exact Int32.not_lt.mp (by assumption)
theorem stR_le (A : aG) (w : Int32) (k : Nat) (l : Int32) : stR A w k l ≤ l := by
  unfold stR
  split
  · exact Int32.le_refl _
  · split
    · exact Int32.le_refl _
    · exact mn_le1 _ _
theorem stR_q {A : aG} {k : Nat} {q : Int32 × Nat} (l : Int32) (hk : k < 4) (h : aRd A k = some q) : stR A (-1) k l ≤ q.1 := by
  unfold stR
  rw [h]
  have : ¬ Int32.ofNat k = -1 := by
    match k, hk with
    | 0, _ => decide
    | 1, _ => decide
    | 2, _ => decide
    | 3, _ => decide
  simp only
  rw [if_neg this]
  exact mn_le2 _ _
theorem need_rd {A : aG} {k : Nat} {q : Int32 × Nat} (hk : k < 4) (h : aRd A k = some q) : need A (-1) ≤ q.1 := by
  unfold need
  match k, hk with
  | 0, _ => exact Int32.le_trans (stR_le _ _ _ _) (Int32.le_trans (stR_le _ _ _ _) (Int32.le_trans (stR_le _ _ _ _) (stR_q _ (by omega) h)))
  | 1, _ => exact Int32.le_trans (stR_le _ _ _ _) (Int32.le_trans (stR_le _ _ _ _) (stR_q _ (by omega) h))
  | 2, _ => exact Int32.le_trans (stR_le _ _ _ _) (stR_q _ (by omega) h)
  | 3, _ => exact stR_q _ (by omega) h
/-- what is dug is wild or freed, and kept by nobody -/
theorem next_1 {A : aG} {b : Nat} (h : next A = some b) : b < 32 ∧ (aSt A b = 0 ∨ (aSt A b = 2 ∧ aFw A b ≤ need A (-1))) := by
  unfold next at h
  cases hb : best A 32 with
  | none => rw [hb] at h; have := wld_lt (A := A) (d := 32) h; exact ⟨this.1, Or.inl this.2⟩
  | some e =>
    rw [hb] at h
    cases h
    have := best_2 hb
    unfold digg at this
    exact ⟨best_lt hb, Or.inr (of_decide_eq_true this)⟩
theorem next_used {A : aG} {b : Nat} (h : next A = some b) : aSt A b ≠ 1 := by
  rcases (next_1 h).2 with e | e
  · rw [e]; decide
  · rw [e.1]; decide
theorem next_kept {n : Nat} {A : aG} {b : Nat} (hw : WFs n A) (h : next A = some b) : ¬ kept A b := by
  obtain ⟨h1, h2, h3, h4, h5, h6, h7, h8⟩ := hw
  rintro (hb | ⟨k, q, hk4, hq, hb⟩)
  · exact next_used h (h7 b hb).1
  · rcases ((h8 k q hk4 hq).2.2 b hb).1 with e | e
    · exact next_used h e
    · rcases (next_1 h).2 with f | f
      · rw [f] at e; exact absurd e.1 (by decide)
      · exact absurd e.2 (Int32.not_lt.mpr (Int32.le_trans f.2 (need_rd hk4 hq)))
theorem new_kept {n : Nat} {A : aG} {b : Nat} (hw : WFs n A) (h : isNew A b = true) : ¬ kept A b := by
  obtain ⟨h1, h2, h3, h4, h5, h6, h7, h8⟩ := hw
  rintro (hb | ⟨k, q, hk4, hq, hb⟩)
  · rw [(h7 b hb).2] at h; cases h
  · rw [((h8 k q hk4 hq).2.2 b hb).2] at h; cases h
/-! how the steps change a garden -/
theorem digA_1 (A : aG) (b : Nat) (p : Pg) : (digA A b p).1 = va_up A.1 b (1, p, aFw A b) ∧ (digA A b p).2.1 = A.2.1 ∧ (digA A b p).2.2.1 = A.2.2.1 ∧ (digA A b p).2.2.2.2 = A.2.2.2.2 := upNew_1 _ _ _
theorem wildA_1 (A : aG) (b : Nat) : (wildA A b).1 = va_up A.1 b (0, aPg A b, aFw A b) ∧ (wildA A b).2.1 = A.2.1 ∧ (wildA A b).2.2.1 = A.2.2.1 ∧ (wildA A b).2.2.2.2 = A.2.2.2.2 := upNew_1 _ _ _
theorem leaveA_1 (A : aG) (b : Nat) : (leaveA A b).1 = (if isNew A b then va_up A.1 b (0, aPg A b, aFw A b) else A.1) ∧ (leaveA A b).2.1 = A.2.1 ∧ (leaveA A b).2.2.1 = A.2.2.1 ∧ (leaveA A b).2.2.2.2 = A.2.2.2.2 := by
  unfold leaveA
  split
  · exact wildA_1 A b
  · exact upLeft_1 A b true
theorem digA_d {A : aG} {d : aD} (h : aDr A = some d) (b : Nat) (p : Pg) : aDr (digA A b p) = some (va_up d.1 b true, d.2) := by
  unfold digA upNew
  have : aDr (setB A b (1, p, aFw A b)) = some d := h
  rw [this]
  rfl
theorem wildA_d {A : aG} {d : aD} (h : aDr A = some d) (b : Nat) : aDr (wildA A b) = some (va_up d.1 b false, d.2) := by
  unfold wildA upNew
  have : aDr (setB A b (0, aPg A b, aFw A b)) = some d := h
  rw [this]
  rfl
theorem isNew_d {A : aG} {d : aD} (h : aDr A = some d) (b : Nat) : isNew A b = d.1 b := by unfold isNew; rw [h]
theorem isLeft_d {A : aG} {d : aD} (h : aDr A = some d) (b : Nat) : isLeft A b = d.2.1 b := by unfold isLeft; rw [h]
theorem leaveA_d {A : aG} {d : aD} (h : aDr A = some d) (b : Nat) : aDr (leaveA A b) = some (if d.1 b then (va_up d.1 b false, d.2) else (d.1, va_up d.2.1 b true, d.2.2)) := by
  unfold leaveA
  rw [isNew_d h]
  by_cases c : d.1 b = true
  · rw [if_pos c, if_pos c, wildA_d h]
  · rw [if_neg c, if_neg c]
    unfold upLeft
    rw [h]
    rfl
theorem aG_ext {A B : aG} (h1 : ∀ b, A.1 b = B.1 b) (h2 : A.2 = B.2) : A = B := by
  obtain ⟨a, a2⟩ := A
  obtain ⟨b, b2⟩ := B
  have : a = b := funext h1
  simp only at h2
  rw [this, h2]
/-- a bed more, in the garden of a draft -/
def setDD (A : aG) (b : Nat) : aG := match aDr A with
  | none => A
  | some d => setDr A (some (d.1, d.2.1, b))
theorem setDD_1 (A : aG) (b : Nat) : (setDD A b).1 = A.1 ∧ (setDD A b).2.1 = A.2.1 ∧ (setDD A b).2.2.1 = A.2.2.1 ∧ (setDD A b).2.2.2.2 = A.2.2.2.2 := by
  unfold setDD
  cases aDr A <;> exact ⟨rfl, rfl, rfl, rfl⟩
theorem setDD_d {A : aG} {d : aD} (h : aDr A = some d) (b : Nat) : aDr (setDD A b) = some (d.1, d.2.1, b) := by
  unfold setDD
  rw [h]
  rfl
def nxt (A : aG) : Nat := (next A).getD 0
/-- the draft's directory is new from now on -/
def ownDirA (A : aG) : aG := if anyNew A then A else leaveA (setDD (digA A (nxt A) (aPg A (drD A))) (nxt A)) (drD A)
/-- a leaf of the draft becomes another one, in a bed that is new -/
def changeA (A : aG) (place : Nat) (l : List (Int32 × Int32)) : aG :=
  let D := dirL A (drD A)
  let lf := D.getD place 0
  if isNew A lf then layA A lf (.inl l) else leaveA (layA (digA A (nxt A) (.inl l)) (drD A) (.inr (D.set place (nxt A)))) lf
def pof (l : List (Int32 × Int32)) (key : Int32) : Nat := l.findIdx (fun q => decide (key ≤ q.1))
/-- a leaf with an entry -/
def withL (l : List (Int32 × Int32)) (key v : Int32) : List (Int32 × Int32) := match lkp l key with
  | some i => l.set i (key, v)
  | none => ins l (pof l key) (key, v)
def putA (A : aG) (key v : Int32) : aG :=
  let B := ownDirA A
  let D := dirL B (drD B)
  if D = [] then layA (digA B (nxt B) (.inl [(key, v)])) (drD B) (.inr [nxt B]) else
  let place := plc B D key D.length
  let l := withL (leafL B (D.getD place 0)) key v
  if l.length ≤ 4 then changeA B place l else
  let C := changeA B place (l.take 3)
  layA (digA C (nxt C) (.inl (l.drop 3))) (drD C) (.inr (ins (dirL C (drD C)) (place + 1) (nxt C)))
def remA (A : aG) (key : Int32) : aG :=
  let B := ownDirA A
  let D := dirL B (drD B)
  let place := plc B D key D.length
  let lf := D.getD place 0
  let l := leafL B lf
  if 1 < l.length then changeA B place (l.eraseIdx (pof l key)) else leaveA (layA B (drD B) (.inr (D.eraseIdx place))) lf
