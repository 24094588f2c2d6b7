/-! what the calls do to a garden -/
def inR (v : Int32) (a b : Int32) : Bool := decide (a ≤ v ∧ v ≤ b)
def spBegin (A : aG) : (aG × Int32) ⊕ Int32 := if isDr A then .inr 1 else .inl (beginA A, nowC A)
def spPut (A : aG) (key v : Int32) : (aG × Int32) ⊕ Int32 :=
  if inR key 0 99 && inR v (-999) 999 then
    if isDr A then
      let beds := bedsFor A (dirL A (drD A)) key
      if beds = -1000 ∨ Int32.ofNat (many A) < beds then .inr 2 else .inl (putA A key v, valBy A (drD A) key)
    else .inr 2
  else .inr 1
/-- how many beds a removal digs -/
def remBeds (A : aG) (key : Int32) : Nat :=
  let D := dirL A (drD A)
  let lf := D.getD (plc A D key D.length) 0
  (if anyNew A then 0 else 1) + (if (leafL A lf).length = 1 ∨ isNew A lf = true then 0 else 1)
def spRem (A : aG) (key : Int32) : (aG × Int32) ⊕ Int32 :=
  if inR key 0 99 then
    if isDr A then
      if valBy A (drD A) key = -1000 ∨ many A < remBeds A key then .inr 2 else .inl (remA A key, valBy A (drD A) key)
    else .inr 2
  else .inr 1
def rootA (A : aG) (x : aRo) : aG := (A.1, va_up A.2.1 (1 - cur A) x, A.2.2)
def lostA (A : aG) : aG := (A.1, A.2.1, A.2.2.1, A.2.2.2.1, A.2.2.2.2.1, A.2.2.2.2.2 + 1)
def comA (A : aG) : aG := (A.1, A.2.1, A.2.2.1, A.2.2.2.1, A.2.2.2.2.1 + 1, A.2.2.2.2.2)
/-- the asleep root after some steps of a commit -/
def rootN (A : aG) (steps : Nat) : aRo := let o := aRt A (1 - cur A)
  (if 2 ≤ steps then nowC A + 1 else o.1, if 2 ≤ steps then some (drD A) else o.2.1, if steps = 0 then o.2.2 else decide (steps = 3))
def commitA (A : aG) (steps : Nat) : aG × Int32 :=
  if anyNew A then
    if steps = 3 then (freeA (comA (rootA A (rootN A 3))) (nowC A + 1), Int32.ofNat (cnt (isLeft A) 32))
    else (lostA (dropA (rootA A (rootN A steps))), -1000)
  else (dropA A, 0)
def spCommit (A : aG) (steps : Int32) : (aG × Int32) ⊕ Int32 :=
  if inR steps 0 3 then (if isDr A then .inl (commitA A steps.toNatClampNeg) else .inr 2) else .inr 1
def spAbort (A : aG) : (aG × Int32) ⊕ Int32 := if isDr A then .inl (dropA A, Int32.ofNat (cnt (isNew A) 32)) else .inr 1
def spOpen (A : aG) : (aG × Int32) ⊕ Int32 := if fcl A 0 4 < 4 then .inl (openA A (fcl A 0 4), Int32.ofNat (fcl A 0 4)) else .inr 1
def closeA (A : aG) (k : Nat) : aG := (A.1, A.2.1, va_up A.2.2.1 k none, A.2.2.2)
def spClose (A : aG) (r : Int32) : (aG × Int32) ⊕ Int32 :=
  if inR r 0 3 then (if (aRd A r.toNatClampNeg).isSome then .inl (closeA A r.toNatClampNeg, Int32.ofNat (cnt (digg (closeA A r.toNatClampNeg)) 32) - Int32.ofNat (cnt (digg A) 32)) else .inr 2) else .inr 1
def A00 : aG := (fun b => if b = 0 then (1, .inr [], 0) else (0, .inr [], 0), fun r => if r = 0 then (1, some 0, true) else (0, none, false), fun _ => none, none, 0, 0)
/-! they keep the invariants -/
theorem WFs_le {n n' : Nat} {A : aG} (h : WFs n A) (hn : n ≤ n') : WFs n' A := by
  obtain ⟨h1, h2, h3, h4, h5, h6⟩ := h
  exact ⟨h1, h2, h3, h4, by omega, h6⟩
theorem WF_le {n n' : Nat} {A : aG} (h : WF n A) (hn : n ≤ n') : WF n' A := ⟨WFs_le h.1 hn, h.2⟩
theorem WF_begin {n : Nat} {A : aG} (h : WF n A) (hd : isDr A = false) : WF n (beginA A) := by
  have hnone : aDr A = none := by
    unfold isDr at hd
    cases hx : aDr A with
    | none => rfl
    | some d => rw [hx] at hd; cases hd
  have hn : ∀ b, isNew A b = false := fun b => by unfold isNew; rw [hnone]
  have hw := (WFs_pres (A' := beginA A) h.1 rfl rfl (fun b hb => ⟨rfl, (hn b).symm⟩)).1
  have hd2 : aDr (beginA A) = some (fun _ => false, fun _ => false, nowD A) := rfl
  have ha : anyNew (beginA A) = false := by
    cases hx : anyNew (beginA A) with
    | false => rfl
    | true =>
      obtain ⟨d, e1, b, e2, e3⟩ := any_iff.mp hx
      rw [hd2] at e1
      cases e1
      cases e3
  refine WF_mk hw hd2 ⟨hw.2.2.2.2.2.1, fun b hb => ⟨(hw.2.2.2.2.2.2.1 b hb).1, rfl⟩, fun e => (by rw [ha] at e; cases e), fun _ => rfl, (fun b _ e => by cases e), (fun b _ e => by cases e)⟩
theorem WF_drop1 {n : Nat} {A : aG} (h : WFs n A) : WF n (dropA A) := by
  refine ⟨(WFs_pres (A' := dropA A) h rfl rfl (fun b hb => ?_)).1, fun d hd => by cases hd⟩
  have hb2 : isNew A b = false := by
    cases hx : isNew A b with
    | false => rfl
    | true => exact absurd hb (new_kept h hx)
  exact ⟨by show (if isNew A b then _ else A.1 b) = _; rw [hb2, if_neg (by decide)], by rw [hb2]; rfl⟩
theorem WF_lost {n : Nat} {A : aG} (h : WF n A) : WF n (lostA A) := h
theorem cur_1 {A : aG} (h1 : (aRt A 1).2.2 = true) (h2 : (aRt A 0).2.2 = false ∨ (aRt A 0).1 < (aRt A 1).1) : cur A = 1 := by
  unfold cur
  rw [if_pos ⟨h1, h2⟩]
theorem cur_0 {A : aG} (h : (aRt A 1).2.2 = true → (aRt A 0).2.2 = true ∧ ¬ (aRt A 0).1 < (aRt A 1).1) : cur A = 0 := by
  unfold cur
  rw [if_neg]
  rintro ⟨h1, h2⟩
  obtain ⟨h3, h4⟩ := h h1
  rcases h2 with h2 | h2
  · rw [h3] at h2; cases h2
  · exact h4 h2
theorem cur_root {A : aG} (h3 : (aRt A (cur A)).2.2 = true) {x : aRo} (hx : x.2.2 = false ∨ x = aRt A (1 - cur A)) : cur (rootA A x) = cur A ∧ aRt (rootA A x) (cur A) = aRt A (cur A) := by
  have hne : cur A ≠ 1 - cur A := by have := cur2 A; omega
  have e : ∀ r, aRt (rootA A x) r = if r = 1 - cur A then x else aRt A r := fun r => rfl
  refine ⟨?_, by rw [e, if_neg hne]⟩
  rcases hx with hx | hx
  · by_cases c : cur A = 1
    · rw [c] at h3 e ⊢
      exact cur_1 (by rw [e, if_neg (by decide)]; exact h3) (Or.inl (by rw [e, if_pos rfl]; exact hx))
    · have c : cur A = 0 := by have := cur2 A; omega
      rw [c] at e ⊢
      exact cur_0 (fun h => by rw [e, if_pos rfl, hx] at h; cases h)
  · have : rootA A x = A := by
      refine Prod.ext rfl (Prod.ext ?_ rfl)
      funext r
      show (if r = 1 - cur A then x else A.2.1 r) = A.2.1 r
      by_cases e1 : r = 1 - cur A
      · rw [if_pos e1, hx, e1]
      · rw [if_neg e1]
    rw [this]
theorem drD_lt {n : Nat} {A : aG} (h : WF n A) : drD A < 32 := by
  unfold drD
  cases hd : aDr A with
  | none => exact h.1.2.2.2.2.2.1.1
  | some d => exact (h.2 d hd).1.1
theorem WF_root {n : Nat} {A : aG} (h : WF n A) {steps : Nat} (h3 : steps < 3) : WFs n (rootA A (rootN A steps)) := by
  have hx : (rootN A steps).2.2 = false ∨ rootN A steps = aRt A (1 - cur A) := by
    match steps, h3 with
    | 0, _ => exact Or.inr rfl
    | 1, _ => exact Or.inl rfl
    | 2, _ => exact Or.inl rfl
  obtain ⟨c1, c2⟩ := cur_root h.1.2.2.1 hx
  refine (WFs_pres2 h.1 c1 c2 (fun r hr d hd => ?_) rfl (fun b hb => ⟨rfl, rfl⟩)).1
  have e : aRt (rootA A (rootN A steps)) r = if r = 1 - cur A then rootN A steps else aRt A r := rfl
  rw [e] at hd
  by_cases e1 : r = 1 - cur A
  · rw [if_pos e1] at hd
    unfold rootN at hd
    simp only at hd
    by_cases e2 : 2 ≤ steps
    · rw [if_pos e2] at hd
      cases hd
      exact drD_lt h
    · rw [if_neg e2] at hd
      exact h.1.2.1 _ (by omega) d hd
  · rw [if_neg e1] at hd
    exact h.1.2.1 r hr d hd
theorem i3_succ {a : Int32} {n : Nat} (h1 : a.toInt ≤ n) (h0 : 0 ≤ a.toInt) (hn : n < 1000000) : (a + 1).toInt = a.toInt + 1 := by
  rw [Int32.toInt_add, show (1 : Int32).toInt = 1 from rfl]
  unfold Int.bmod
  simp only [show ((2 : Nat) ^ 32) = 4294967296 from rfl]
  split <;> omega
theorem WF_commit3 {n : Nat} {A : aG} (h : WF n A) (hd : isDr A = true) (ha : anyNew A = true) (hn : n < 1000000) : WF (n + 1) (freeA (comA (rootA A (rootN A 3))) (nowC A + 1)) := by
  obtain ⟨d, hd⟩ := isDr_d hd
  obtain ⟨g1, g2, g3, g4, g5, g6⟩ := h.2 d hd
  obtain ⟨h1, h2, h3, h4, h5, h6, h7, h8⟩ := h.1
  have hs := i3_succ h5 h4 hn
  have hlt : nowC A < nowC A + 1 := by rw [Int32.lt_iff_toInt_lt, hs]; omega
  have hne : cur A ≠ 1 - cur A := by have := cur2 A; omega
  have eD := drD_d hd
  have hl : ∀ b, isLeft (comA (rootA A (rootN A 3))) b = isLeft A b := fun b => rfl
  generalize hC : freeA (comA (rootA A (rootN A 3))) (nowC A + 1) = C
  have eB : ∀ b, C.1 b = if isLeft A b then (2, aPg A b, nowC A + 1) else A.1 b := fun b => by rw [← hC]; rfl
  have eR : ∀ r, aRt C r = if r = 1 - cur A then (nowC A + 1, some (drD A), true) else aRt A r := fun r => by rw [← hC]; rfl
  have eRd : ∀ k, aRd C k = aRd A k := fun k => by rw [← hC]; rfl
  have eDr : aDr C = none := by rw [← hC]; rfl
  have eN : ∀ b, isNew C b = false := fun b => by unfold isNew; rw [eDr]
  have ec : cur C = 1 - cur A := by
    by_cases c : cur A = 1
    · have hn1 : nowC A = (aRt A 1).1 := by unfold nowC; rw [c]
      rw [c] at eR ⊢
      refine cur_0 (fun _ => ⟨by rw [eR, if_pos rfl], ?_⟩)
      rw [eR, eR, if_pos rfl, if_neg (by decide), ← hn1]
      exact fun e => Int32.lt_irrefl (Int32.lt_trans e hlt)
    · have c : cur A = 0 := by have := cur2 A; omega
      have hn1 : nowC A = (aRt A 0).1 := by unfold nowC; rw [c]
      rw [c] at eR ⊢
      refine cur_1 (by rw [eR, if_pos rfl]) (Or.inr ?_)
      rw [eR, eR, if_pos rfl, if_neg (by decide), ← hn1]
      exact hlt
  have er : aRt C (cur C) = (nowC A + 1, some (drD A), true) := by rw [ec, eR, if_pos rfl]
  have eC : nowC C = nowC A + 1 := by unfold nowC; rw [er]; rfl
  have eD2 : nowD C = drD A := by unfold nowD; rw [er]; rfl
  have pC : ∀ b, aPg C b = aPg A b := fun b => by
    unfold aPg
    rw [eB]
    by_cases e : isLeft A b = true
    · rw [if_pos e]
    · rw [if_neg e]
  have v6 := VR_congr (A' := C) g1 (fun b _ => pC b)
  refine ⟨⟨by unfold okNow; rw [er, eD2], fun r hr e he => ?_, by rw [er], by rw [eC, hs]; omega, by rw [eC, hs]; omega, by rw [eD2, eD]; exact v6.1, fun b hb => ⟨?_, eN b⟩, fun k q hk hq => ?_⟩, fun e he => by rw [eDr] at he; cases he⟩
  · rw [eR] at he
    by_cases e1 : r = 1 - cur A
    · rw [if_pos e1] at he
      cases he
      rw [eD]
      exact g1.1
    · rw [if_neg e1] at he
      exact h2 r hr e he
  · have hb' : rch A d.2.2 b := by unfold rch at hb ⊢; rw [eD2, eD, v6.2] at hb; exact hb
    unfold aSt
    rw [eB, isLeft_d hd, (g2 b hb').2, if_neg (by decide)]
    exact (g2 b hb').1
  · rw [eRd] at hq
    obtain ⟨a1, a2, a3⟩ := h8 k q hk hq
    have v8 := VR_congr (A' := C) a2 (fun b _ => pC b)
    refine ⟨by rw [eC]; exact Int32.le_of_lt (Int32.lt_of_le_of_lt a1 hlt), v8.1, fun b hb => ⟨?_, eN b⟩⟩
    have hb' : rch A q.2 b := by unfold rch at hb ⊢; rw [v8.2] at hb; exact hb
    unfold aSt aFw
    rw [eB]
    by_cases e : isLeft A b = true
    · rw [if_pos e]
      exact Or.inr ⟨rfl, Int32.lt_of_le_of_lt a1 hlt⟩
    · rw [if_neg e]
      exact (a3 b hb').1
theorem WF_commit {n : Nat} {A : aG} (h : WF n A) (hd : isDr A = true) {steps : Nat} (hs : steps ≤ 3) (hn : n < 1000000) : WF (n + 1) (commitA A steps).1 := by
  unfold commitA
  by_cases ha : anyNew A = true
  · rw [if_pos ha]
    by_cases h3 : steps = 3
    · rw [if_pos h3]
      exact WF_commit3 h hd ha hn
    · rw [if_neg h3]
      exact WF_le (WF_lost (WF_drop1 (WF_root h (by omega)))) (Nat.le_succ _)
  · rw [if_neg ha]
    exact WF_le (WF_drop1 h.1) (Nat.le_succ _)
theorem WF_rd {n : Nat} {A A' : aG} (h : WF n A) (h1 : A'.1 = A.1) (h2 : A'.2.1 = A.2.1) (h3 : A'.2.2.2 = A.2.2.2) (hq : ∀ k q, k < 4 → aRd A' k = some q → aRd A k = some q ∨ q = (nowC A, nowD A)) : WF n A' := by
  obtain ⟨e1, e2, e3, e4⟩ := rt_congr h2
  obtain ⟨⟨a1, a2, a3, a4, a5, a6, a7, a8⟩, w2⟩ := h
  have hN : ∀ b, isNew A' b = isNew A b := fun b => by unfold isNew aDr; rw [h3]
  have hP : ∀ d, VR A d → VR A' d ∧ dirL A' d = dirL A d := fun d hd => VR_congr hd (fun b _ => by unfold aPg; rw [h1])
  have hr : ∀ d, VR A d → ∀ b, rch A' d b → rch A d b := fun d hd b hb => by unfold rch at hb ⊢; rw [(hP d hd).2] at hb; exact hb
  have hS : ∀ b, aSt A' b = aSt A b := fun b => by unfold aSt; rw [h1]
  have hF : ∀ b, aFw A' b = aFw A b := fun b => by unfold aFw; rw [h1]
  have hD : aDr A' = aDr A := by unfold aDr; rw [h3]
  have hany : anyNew A' = anyNew A := by unfold anyNew; rw [hD]
  refine ⟨⟨e4.mpr a1, fun r hr2 d => by unfold aRt; rw [h2]; exact a2 r hr2 d, by unfold aRt; rw [e1, h2]; exact a3, by rw [e2]; exact a4, by rw [e2]; exact a5, by rw [e3]; exact (hP _ a6).1, fun b hb => ?_, fun k q hk hq2 => ?_⟩, fun d hd => ?_⟩
  · rw [hS, hN]
    exact a7 b (hr _ a6 b (by rw [e3] at hb; exact hb))
  · rcases hq k q hk hq2 with e | e
    · obtain ⟨b1, b2, b3⟩ := a8 k q hk e
      exact ⟨by rw [e2]; exact b1, (hP _ b2).1, fun b hb => by rw [hS, hF, hN]; exact b3 b (hr _ b2 b hb)⟩
    · subst e
      exact ⟨by rw [e2]; exact Int32.le_refl _, (hP _ a6).1, fun b hb => by rw [hS, hN]; exact ⟨Or.inl (a7 b (hr _ a6 b hb)).1, (a7 b (hr _ a6 b hb)).2⟩⟩
  · rw [hD] at hd
    obtain ⟨g1, g2, g3, g4, g5, g6⟩ := w2 d hd
    exact ⟨(hP _ g1).1, fun b hb => by rw [hS]; exact g2 b (hr _ g1 b hb), by rw [hany]; exact g3, by rw [hany, e3]; exact g4, fun b hb hx => by rw [hS]; exact g5 b hb hx, fun b hb hx => by rw [hS]; exact g6 b hb hx⟩
theorem WF_open {n : Nat} {A : aG} (h : WF n A) (k : Nat) : WF n (openA A k) := WF_rd h rfl rfl rfl (fun i q hi hq => by
  by_cases e : i = k
  · subst e
    have : aRd (openA A i) i = some (nowC A, nowD A) := vup_at _ _ _
    rw [this] at hq
    cases hq
    exact Or.inr rfl
  · have : aRd (openA A k) i = aRd A i := vup_ne e
    rw [this] at hq
    exact Or.inl hq)
theorem WF_close {n : Nat} {A : aG} (h : WF n A) (k : Nat) : WF n (closeA A k) := WF_rd h rfl rfl rfl (fun i q hi hq => by
  by_cases e : i = k
  · subst e
    have : aRd (closeA A i) i = none := vup_at _ _ _
    rw [this] at hq
    cases hq
  · have : aRd (closeA A k) i = aRd A i := vup_ne e
    rw [this] at hq
    exact Or.inl hq)
theorem WF_00 : WF 1 A00 := by
  have hc : cur A00 = 0 := rfl
  have hD : nowD A00 = 0 := rfl
  have hp : aPg A00 0 = .inr [] := rfl
  refine ⟨⟨rfl, fun r hr d hd => ?_, rfl, by decide, by decide, ⟨by decide, [], rfl, by decide, List.nodup_nil, fun b hb => by cases hb⟩, fun b hb => ?_, fun k q _ hq => by cases hq⟩, fun d hd => by cases hd⟩
  · match r, hr with
    | 0, _ => cases hd; decide
    | 1, _ => cases hd
  · rcases (rch_dir hp).mp hb with rfl | hb
    · exact ⟨rfl, rfl⟩
    · cases hb
