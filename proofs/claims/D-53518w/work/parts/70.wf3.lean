/-! the steps of put and remove keep the invariants -/
theorem WFd_mk {A : aG} {d : aD} {D : List Nat} (hd : aDr A = some d) (h32 : d.2.2 < 32) (hp : aPg A d.2.2 = .inr D) (hs : aSt A d.2.2 = 1) (hlen : D.length ≤ 6) (hnd : D.Nodup) (hD : ∀ b ∈ D, b < 32 ∧ (∃ l, aPg A b = .inl l ∧ okL l) ∧ aSt A b = 1 ∧ d.2.1 b = false) (hnew : d.1 d.2.2 = true) (hN : ∀ b, b < 32 → d.1 b = true → aSt A b = 1 ∧ d.2.1 b = false) (hL : ∀ b, b < 32 → d.2.1 b = true → aSt A b = 1) : WFd A d := by
  refine ⟨⟨h32, D, hp, hlen, hnd, fun b hb => ⟨(hD b hb).1, (hD b hb).2.1⟩⟩, fun b hb => ?_, fun _ => hnew, fun h => ?_, hN, hL⟩
  · rcases (rch_dir hp).mp hb with rfl | hb
    · exact ⟨hs, (hN _ h32 hnew).2⟩
    · exact (hD b hb).2.2
  · rw [any_of hd h32 hnew] at h
    cases h
theorem WF_mk {n : Nat} {A : aG} {d : aD} (h : WFs n A) (hd : aDr A = some d) (h2 : WFd A d) : WF n A := ⟨h, fun d' hd' => by rw [hd] at hd'; cases hd'; exact h2⟩
/-- what is known of a draft with a change -/
theorem WF_d {n : Nat} {A : aG} (h : WF n A) {d : aD} (hd : aDr A = some d) : ∃ D, d.2.2 < 32 ∧ drD A = d.2.2 ∧ aPg A d.2.2 = .inr D ∧ dirL A (drD A) = D ∧ aSt A d.2.2 = 1 ∧ D.length ≤ 6 ∧ D.Nodup ∧ (∀ b ∈ D, b < 32 ∧ (∃ l, aPg A b = .inl l ∧ okL l) ∧ aSt A b = 1 ∧ d.2.1 b = false ∧ b ≠ d.2.2) ∧ d.2.1 d.2.2 = false ∧ (∀ b, b < 32 → d.1 b = true → aSt A b = 1 ∧ d.2.1 b = false) ∧ (∀ b, b < 32 → d.2.1 b = true → aSt A b = 1) := by
  obtain ⟨⟨h1, D, h2, h3, h4, h5⟩, g2, g3, g4, g5, g6⟩ := h.2 d hd
  refine ⟨D, h1, drD_d hd, h2, by rw [drD_d hd]; exact dirL_of h2, (g2 _ (Or.inl rfl)).1, h3, h4, fun b hb => ?_, (g2 _ (Or.inl rfl)).2, g5, g6⟩
  obtain ⟨b1, l, b2, b3⟩ := h5 b hb
  have := g2 b ((rch_dir h2).mpr (Or.inr hb))
  exact ⟨b1, ⟨l, b2, b3⟩, this.1, this.2, fun e => by rw [e, h2] at b2; cases b2⟩
theorem nxt_of {A : aG} (h : 0 < many A) : next A = some (nxt A) := by
  obtain ⟨b, hb⟩ := many_next h
  unfold nxt
  rw [hb]
  rfl
theorem any_not {A : aG} {d : aD} {b : Nat} (hd : aDr A = some d) (h : anyNew A = false) (hb : b < 32) : d.1 b = false := by
  cases hx : d.1 b with
  | false => rfl
  | true => rw [any_of hd hb hx] at h; cases h
theorem WF_own {n : Nat} {A : aG} (h : WF n A) (hd : isDr A = true) (hn : anyNew A = false → 0 < many A) :
    WF n (ownDirA A) ∧ isDr (ownDirA A) = true ∧ anyNew (ownDirA A) = true ∧ dirL (ownDirA A) (drD (ownDirA A)) = dirL A (drD A) ∧ (∀ b ∈ dirL A (drD A), (ownDirA A).1 b = A.1 b ∧ isNew (ownDirA A) b = isNew A b) ∧ many A ≤ many (ownDirA A) + (if anyNew A then 0 else 1) ∧ (ownDirA A).2.1 = A.2.1 ∧ (ownDirA A).2.2.1 = A.2.2.1 ∧ (ownDirA A).2.2.2.2 = A.2.2.2.2 := by
  unfold ownDirA
  by_cases ha : anyNew A = true
  · rw [if_pos ha]
    refine ⟨h, hd, ha, rfl, fun b hb => ⟨rfl, rfl⟩, by omega, rfl, rfl, rfl⟩
  · rw [if_neg ha]
    have ha : anyNew A = false := by cases hx : anyNew A with | false => rfl | true => exact absurd hx ha
    obtain ⟨d, hd⟩ := isDr_d hd
    obtain ⟨D, a1, a2, a3, a4, a5, a6, a7, a8, a9, a10, a11⟩ := WF_d h hd
    have hnx := nxt_of (hn ha)
    generalize nxt A = b at hnx
    have hb := next_1 hnx
    have hbu := next_used hnx
    rw [a2, a3]
    have hne : d.2.2 ≠ b := fun e => hbu (by rw [← e]; exact a5)
    have e1 := digA_1 A b (.inr D)
    have e2 := setDD_1 (digA A b (.inr D)) b
    have e3 := leaveA_1 (setDD (digA A b (.inr D)) b) d.2.2
    have d1 := digA_d hd b (.inr D)
    have d2 := setDD_d d1 b
    have d3 := leaveA_d d2 d.2.2
    have hdn := any_not hd ha a1
    have hnn : isNew (setDD (digA A b (.inr D)) b) d.2.2 = false := by rw [isNew_d d2]; show va_up d.1 b true d.2.2 = false; rw [vup_ne hne]; exact hdn
    rw [hnn, if_neg (by decide)] at e3
    have hvn : va_up d.1 b true d.2.2 = false := by rw [vup_ne hne]; exact hdn
    simp only at d3
    rw [hvn, if_neg (by decide)] at d3
    have m1 := many_dig A hb.1 (.inr D)
    have m2 := many_setDD (digA A b (.inr D)) b
    have m3 := many_leave (setDD (digA A b (.inr D)) b) d.2.2
    generalize leaveA (setDD (digA A b (.inr D)) b) d.2.2 = C at e3 d3 m3 ⊢
    have hC : ∀ c, C.1 c = if c = b then (1, .inr D, aFw A b) else A.1 c := fun c => by rw [e3.1, e2.1, e1.1]; rfl
    have hr : C.2.1 = A.2.1 := e3.2.1.trans (e2.2.1.trans e1.2.1)
    have hrd : C.2.2.1 = A.2.2.1 := e3.2.2.1.trans (e2.2.2.1.trans e1.2.2.1)
    have hls : C.2.2.2.2 = A.2.2.2.2 := e3.2.2.2.trans (e2.2.2.2.trans e1.2.2.2)
    have hCn : ∀ c, c ≠ b → C.1 c = A.1 c ∧ isNew C c = isNew A c := fun c hc => ⟨by rw [hC, if_neg hc], by rw [isNew_d d3, isNew_d hd]; exact vup_ne hc⟩
    have hDb : ∀ c ∈ D, c ≠ b := fun c hc e => hbu (by rw [← e]; exact (a8 c hc).2.2.1)
    have hw := (WFs_pres h.1 hr hrd (fun c hc => hCn c (fun e => next_kept h.1 hnx (by rw [← e]; exact hc)))).1
    have pC : ∀ c, c ≠ b → aPg C c = aPg A c ∧ aSt C c = aSt A c := fun c hc => by unfold aPg aSt; rw [(hCn c hc).1]; exact ⟨rfl, rfl⟩
    have pb : aPg C b = .inr D ∧ aSt C b = 1 := by unfold aPg aSt; rw [hC, if_pos rfl]; exact ⟨rfl, rfl⟩
    have hlb : d.2.1 b = false := by
      cases hx : d.2.1 b with
      | false => rfl
      | true => exact absurd (a11 b hb.1 hx) hbu
    have hD' : drD C = b := drD_d d3
    refine ⟨WF_mk hw d3 (WFd_mk (D := D) d3 hb.1 pb.1 pb.2 a6 a7 (fun c hc => ?_) (vup_at _ _ _) (fun c hc hx => ?_) (fun c hc hx => ?_)), by unfold isDr; rw [d3]; rfl, any_of d3 hb.1 (vup_at _ _ _), by rw [hD', dirL_of pb.1, dirL_of a3], fun c hc => hCn c (hDb c (by rw [dirL_of a3] at hc; exact hc)), by rw [ha, if_neg (by decide)]; omega, hr, hrd, hls⟩
    · obtain ⟨b1, b2, b3, b4, b5⟩ := a8 c hc
      rw [(pC c (hDb c hc)).1, (pC c (hDb c hc)).2]
      exact ⟨b1, b2, b3, by show va_up d.2.1 d.2.2 true c = false; rw [vup_ne b5]; exact b4⟩
    · by_cases e : c = b
      · rw [e]; exact ⟨pb.2, by show va_up d.2.1 d.2.2 true b = false; rw [vup_ne (fun e => hne e.symm)]; exact hlb⟩
      · have hx : va_up d.1 b true c = true := hx
        rw [vup_ne e, any_not hd ha hc] at hx
        cases hx
    · by_cases e : c = d.2.2
      · rw [e, (pC _ hne).2]; exact a5
      · have hx : va_up d.2.1 d.2.2 true c = true := hx
        rw [vup_ne e] at hx
        rw [(pC c (fun e => by rw [e, hlb] at hx; cases hx)).2]
        exact a11 c hc hx
theorem mem_set2 {D : List Nat} {place b c : Nat} (h : c ∈ D.set place b) : c = b ∨ c ∈ D := by
  rcases List.mem_or_eq_of_mem_set h with h | h
  · exact Or.inr h
  · exact Or.inl h
theorem nodup_set {D : List Nat} {place b : Nat} (hD : D.Nodup) (hb : b ∉ D) : (D.set place b).Nodup := by
  induction D generalizing place with
  | nil => exact hD
  | cons x D ih =>
    rw [List.nodup_cons] at hD
    have hx : b ≠ x := fun e => hb (by rw [e]; exact List.mem_cons_self)
    have hbD : b ∉ D := fun e => hb (List.mem_cons_of_mem _ e)
    cases place with
    | zero => exact List.nodup_cons.mpr ⟨hbD, hD.2⟩
    | succ p =>
      refine List.nodup_cons.mpr ⟨fun e => ?_, ih hD.2 hbD⟩
      rcases mem_set2 e with e | e
      · exact hx e.symm
      · exact hD.1 e
/-- the bed that was at the place is there no more -/
theorem set_gone {D : List Nat} {place b : Nat} (hD : D.Nodup) (hb : b ∉ D) (hp : place < D.length) : D.getD place 0 ∉ D.set place b := by
  induction D generalizing place with
  | nil => exact absurd hp (Nat.not_lt_zero _)
  | cons x D ih =>
    rw [List.nodup_cons] at hD
    have hx : b ≠ x := fun e => hb (by rw [e]; exact List.mem_cons_self)
    have hbD : b ∉ D := fun e => hb (List.mem_cons_of_mem _ e)
    cases place with
    | zero =>
      intro e
      rcases List.mem_cons.mp e with e | e
      · exact hx e.symm
      · exact hD.1 e
    | succ p =>
      intro e
      rcases List.mem_cons.mp e with e | e
      · have : D.getD p 0 ∈ D := getD_mem (by simpa using hp)
        have e : D.getD p 0 = x := e
        exact hD.1 (by rw [← e]; exact this)
      · exact ih hD.2 hbD (by simpa using hp) e
theorem ins_mem {D : List Nat} {j b c : Nat} : c ∈ ins D j b ↔ c = b ∨ c ∈ D := by
  unfold ins
  rw [List.mem_append, List.mem_cons]
  constructor
  · rintro (h | h | h)
    · exact Or.inr (List.mem_of_mem_take h)
    · exact Or.inl h
    · exact Or.inr (List.mem_of_mem_drop h)
  · rintro (h | h)
    · exact Or.inr (Or.inl h)
    · rw [← List.take_append_drop j D] at h
      rcases List.mem_append.mp h with h | h
      · exact Or.inl h
      · exact Or.inr (Or.inr h)
theorem ins_nodup {D : List Nat} {j b : Nat} (hD : D.Nodup) (hb : b ∉ D) : (ins D j b).Nodup := by
  unfold ins
  have h : (D.take j ++ D.drop j).Nodup := by rw [List.take_append_drop]; exact hD
  rw [List.nodup_append] at h ⊢
  obtain ⟨h1, h2, h3⟩ := h
  refine ⟨h1, List.nodup_cons.mpr ⟨fun e => hb (List.mem_of_mem_drop e), h2⟩, fun x hx y hy => ?_⟩
  rcases List.mem_cons.mp hy with e | e
  · exact fun e2 => hb (by rw [← e, ← e2]; exact List.mem_of_mem_take hx)
  · exact h3 x hx y e
theorem era_mem {D : List Nat} {j c : Nat} (h : c ∈ D.eraseIdx j) : c ∈ D := List.mem_of_mem_eraseIdx h
theorem era_gone {D : List Nat} {j : Nat} (hD : D.Nodup) (hj : j < D.length) : D.getD j 0 ∉ D.eraseIdx j := by
  induction D generalizing j with
  | nil => exact absurd hj (Nat.not_lt_zero _)
  | cons x D ih =>
    rw [List.nodup_cons] at hD
    cases j with
    | zero => exact hD.1
    | succ j =>
      intro e
      have hj : j < D.length := by simpa using hj
      rcases List.mem_cons.mp e with e | e
      · have e : D.getD j 0 = x := e
        exact hD.1 (by rw [← e]; exact getD_mem hj)
      · exact ih hD.2 hj e
theorem WF_change {n : Nat} {A : aG} (h : WF n A) {d : aD} (hd : aDr A = some d) (ha : anyNew A = true) {place : Nat} (hp : place < (dirL A (drD A)).length) {l : List (Int32 × Int32)} (hl : okL l) (hn : isNew A ((dirL A (drD A)).getD place 0) = false → 0 < many A) :
    ∃ c, WF n (changeA A place l) ∧ isDr (changeA A place l) = true ∧ anyNew (changeA A place l) = true ∧ drD (changeA A place l) = drD A ∧ dirL (changeA A place l) (drD A) = (dirL A (drD A)).set place c ∧
      c = (if isNew A ((dirL A (drD A)).getD place 0) then (dirL A (drD A)).getD place 0 else nxt A) ∧ c < 32 ∧ aSt (changeA A place l) c = 1 ∧ aPg (changeA A place l) c = .inl l ∧ isNew (changeA A place l) c = true ∧ c ≠ drD A ∧
      many A ≤ many (changeA A place l) + (if isNew A ((dirL A (drD A)).getD place 0) then 0 else 1) ∧ (changeA A place l).2.1 = A.2.1 ∧ (changeA A place l).2.2.1 = A.2.2.1 ∧ (changeA A place l).2.2.2.2 = A.2.2.2.2 := by
  obtain ⟨D, a1, a2, a3, a4, a5, a6, a7, a8, a9, a10, a11⟩ := WF_d h hd
  have hdn := (h.2 d hd).2.2.1 ha
  unfold changeA
  rw [a4] at hp hn ⊢
  simp only
  rw [a2]
  have hlf : D.getD place 0 ∈ D := getD_mem hp
  have hgset : ∀ c, c = D.getD place 0 → D.set place c = D := fun c hc => by rw [hc, getD_get hp, List.set_getElem_self]
  obtain ⟨f1, f2, f3, f4, f5⟩ := a8 _ hlf
  generalize hlfe : D.getD place 0 = lf at hlf f1 f2 f3 f4 f5 hn hgset ⊢
  have hnd : isNew A d.2.2 = true := by rw [isNew_d hd]; exact hdn
  by_cases c : isNew A lf = true
  · rw [if_pos c, if_pos c, if_pos c]
    have hC : ∀ e, (layA A lf (.inl l)).1 e = if e = lf then (aSt A lf, .inl l, aFw A lf) else A.1 e := fun e => layA_1 A lf e _
    have hm := many_lay A lf (.inl l)
    have hd2 : aDr (layA A lf (.inl l)) = some d := hd
    have hr : (layA A lf (.inl l)).2 = A.2 := rfl
    have hCne : ∀ e, isNew (layA A lf (.inl l)) e = isNew A e := fun e => rfl
    generalize layA A lf (.inl l) = C at hC hm hd2 hr hCne ⊢
    have pC : ∀ e, e ≠ lf → C.1 e = A.1 e := fun e he => by rw [hC, if_neg he]
    have pS : ∀ e, aSt C e = aSt A e := fun e => by
      unfold aSt
      rw [hC]
      by_cases e1 : e = lf
      · rw [if_pos e1, e1]
      · rw [if_neg e1]
    have pP : aPg C lf = .inl l := by unfold aPg; rw [hC, if_pos rfl]
    have pP2 : ∀ e, e ≠ lf → aPg C e = aPg A e := fun e he => by unfold aPg; rw [pC e he]
    have hw := (WFs_pres h.1 (A' := C) (by rw [hr]) (by rw [hr]) (fun e he => ⟨pC e (fun e1 => new_kept h.1 c (by rw [← e1]; exact he)), hCne e⟩)).1
    refine ⟨lf, WF_mk hw hd2 (WFd_mk (D := D) hd2 a1 ((pP2 _ (fun e => f5 e.symm)).trans a3) ((pS _).trans a5) a6 a7 (fun e he => ?_) hdn (fun e he hx => ?_) (fun e he hx => ?_)), by unfold isDr; rw [hd2]; rfl, any_of hd2 a1 hdn, drD_d hd2, ?_, rfl, f1, (pS _).trans f3, pP, (hCne _).trans c, f5, by omega, by rw [hr], by rw [hr], by rw [hr]⟩
    · obtain ⟨b1, b2, b3, b4, b5⟩ := a8 e he
      refine ⟨b1, ?_, (pS e).trans b3, b4⟩
      by_cases e1 : e = lf
      · rw [e1]; exact ⟨l, pP, hl⟩
      · rw [pP2 e e1]; exact b2
    · rw [pS]; exact a10 e he hx
    · rw [pS]; exact a11 e he hx
    · rw [hgset lf rfl, dirL_of ((pP2 _ (fun e => f5 e.symm)).trans a3)]
  · rw [if_neg c, if_neg c, if_neg c]
    have c' : isNew A lf = false := by cases hx : isNew A lf with | false => rfl | true => exact absurd hx c
    have hnx := nxt_of (hn c')
    generalize nxt A = b at hnx
    have hb := next_1 hnx
    have hbu := next_used hnx
    have hne : d.2.2 ≠ b := fun e => hbu (by rw [← e]; exact a5)
    have hbD : b ∉ D := fun e => hbu (a8 b e).2.2.1
    have hlb : lf ≠ b := fun e => hbD (by rw [← e]; exact hlf)
    have e1 := digA_1 A b (.inl l)
    have d1 := digA_d hd b (.inl l)
    have hL : ∀ e, (layA (digA A b (.inl l)) d.2.2 (.inr (D.set place b))).1 e = if e = d.2.2 then (1, .inr (D.set place b), aFw A d.2.2) else if e = b then (1, .inl l, aFw A b) else A.1 e := fun e => by
      rw [layA_1, digA_11]
      have : aSt (digA A b (.inl l)) d.2.2 = 1 ∧ aFw (digA A b (.inl l)) d.2.2 = aFw A d.2.2 := by unfold aSt aFw; rw [digA_11, if_neg hne]; exact ⟨a5, rfl⟩
      rw [this.1, this.2]
    have d2 : aDr (layA (digA A b (.inl l)) d.2.2 (.inr (D.set place b))) = some (va_up d.1 b true, d.2) := d1
    have m1 := many_dig A hb.1 (.inl l)
    have m2 := many_lay (digA A b (.inl l)) d.2.2 (.inr (D.set place b))
    have r2 : (layA (digA A b (.inl l)) d.2.2 (.inr (D.set place b))).2.1 = A.2.1 ∧ (layA (digA A b (.inl l)) d.2.2 (.inr (D.set place b))).2.2.1 = A.2.2.1 ∧ (layA (digA A b (.inl l)) d.2.2 (.inr (D.set place b))).2.2.2.2 = A.2.2.2.2 := e1.2
    generalize layA (digA A b (.inl l)) d.2.2 (.inr (D.set place b)) = C1 at hL d2 m2 r2 ⊢
    have hvn : va_up d.1 b true lf = false := by rw [vup_ne hlb, ← isNew_d hd]; exact c'
    have e3 := leaveA_1 C1 lf
    have d3 := leaveA_d d2 lf
    have m3 := many_leave C1 lf
    simp only at d3
    rw [hvn, if_neg (by decide)] at d3
    rw [show isNew C1 lf = false by rw [isNew_d d2]; exact hvn, if_neg (by decide)] at e3
    generalize leaveA C1 lf = C at e3 d3 m3 ⊢
    have hC : ∀ e, C.1 e = if e = d.2.2 then (1, .inr (D.set place b), aFw A d.2.2) else if e = b then (1, .inl l, aFw A b) else A.1 e := fun e => by rw [e3.1, hL]
    have hr : C.2.1 = A.2.1 := e3.2.1.trans r2.1
    have hrd : C.2.2.1 = A.2.2.1 := e3.2.2.1.trans r2.2.1
    have hls : C.2.2.2.2 = A.2.2.2.2 := e3.2.2.2.trans r2.2.2
    have pC : ∀ e, e ≠ d.2.2 → e ≠ b → C.1 e = A.1 e := fun e h1 h2 => by rw [hC, if_neg h1, if_neg h2]
    have pN : ∀ e, e ≠ b → isNew C e = isNew A e := fun e h1 => by rw [isNew_d d3, isNew_d hd]; exact vup_ne h1
    have pd : aPg C d.2.2 = .inr (D.set place b) ∧ aSt C d.2.2 = 1 := by unfold aPg aSt; rw [hC, if_pos rfl]; exact ⟨rfl, rfl⟩
    have pb : aPg C b = .inl l ∧ aSt C b = 1 := by unfold aPg aSt; rw [hC, if_neg (fun e => hne e.symm), if_pos rfl]; exact ⟨rfl, rfl⟩
    have pS : ∀ e, aSt A e = 1 → aSt C e = 1 := fun e he => by
      by_cases h1 : e = d.2.2
      · rw [h1]; exact pd.2
      · by_cases h2 : e = b
        · rw [h2]; exact pb.2
        · unfold aSt; rw [pC e h1 h2]; exact he
    have hw := (WFs_pres h.1 hr hrd (fun e he => by
      have h1 : e ≠ d.2.2 := fun e1 => new_kept h.1 hnd (by rw [← e1]; exact he)
      have h2 : e ≠ b := fun e1 => next_kept h.1 hnx (by rw [← e1]; exact he)
      exact ⟨pC e h1 h2, pN e h2⟩)).1
    have hlb2 : d.2.1 b = false := by
      cases hx : d.2.1 b with
      | false => rfl
      | true => exact absurd (a11 b hb.1 hx) hbu
    have hgone := set_gone (place := place) a7 hbD hp
    rw [hlfe] at hgone
    have hlf2 : d.2.1 lf = false := f4
    refine ⟨b, WF_mk hw d3 (WFd_mk (D := D.set place b) d3 a1 pd.1 pd.2 (by rw [List.length_set]; exact a6) (nodup_set a7 hbD) (fun e he => ?_) (by show va_up d.1 b true d.2.2 = true; rw [vup_ne hne]; exact hdn) (fun e he hx => ?_) (fun e he hx => ?_)), by unfold isDr; rw [d3]; rfl, any_of d3 hb.1 (vup_at _ _ _), by rw [drD_d d3], dirL_of pd.1, rfl, hb.1, pb.2, pb.1, by rw [isNew_d d3]; exact vup_at _ _ _, fun e => hne e.symm, by omega, hr, hrd, hls⟩
    · show e < 32 ∧ _ ∧ _ ∧ va_up d.2.1 lf true e = false
      have h1 : e ≠ lf := fun e1 => hgone (by rw [← e1]; exact he)
      rw [vup_ne h1]
      rcases mem_set2 he with e1 | e1
      · rw [e1]; exact ⟨hb.1, ⟨l, pb.1, hl⟩, pb.2, hlb2⟩
      · obtain ⟨b1, b2, b3, b4, b5⟩ := a8 e e1
        have h2 : e ≠ b := fun e2 => hbD (by rw [← e2]; exact e1)
        refine ⟨b1, ?_, pS e b3, b4⟩
        unfold aPg
        rw [pC e b5 h2]
        exact b2
    · show aSt C e = 1 ∧ va_up d.2.1 lf true e = false
      have hx : va_up d.1 b true e = true := hx
      by_cases e1 : e = b
      · rw [e1, vup_ne (fun e2 => hlb e2.symm)]; exact ⟨pb.2, hlb2⟩
      · rw [vup_ne e1] at hx
        have h1 : e ≠ lf := fun e2 => by rw [e2, ← isNew_d hd, c'] at hx; cases hx
        rw [vup_ne h1]
        exact ⟨pS e (a10 e he hx).1, (a10 e he hx).2⟩
    · have hx : va_up d.2.1 lf true e = true := hx
      by_cases e1 : e = lf
      · rw [e1]; exact pS lf f3
      · rw [vup_ne e1] at hx
        exact pS e (a11 e he hx)
/-- a new leaf -/
theorem WF_insL {n : Nat} {A : aG} (h : WF n A) {d : aD} (hd : aDr A = some d) (ha : anyNew A = true) {b j : Nat} (hnx : next A = some b) (hD : (dirL A (drD A)).length ≤ 5) {l : List (Int32 × Int32)} (hl : okL l) :
    WF n (layA (digA A b (.inl l)) (drD A) (.inr (ins (dirL A (drD A)) j b))) ∧ aDr (layA (digA A b (.inl l)) (drD A) (.inr (ins (dirL A (drD A)) j b))) = some (va_up d.1 b true, d.2) ∧ anyNew (layA (digA A b (.inl l)) (drD A) (.inr (ins (dirL A (drD A)) j b))) = true := by
  obtain ⟨D, a1, a2, a3, a4, a5, a6, a7, a8, a9, a10, a11⟩ := WF_d h hd
  have hdn := (h.2 d hd).2.2.1 ha
  rw [a4] at hD ⊢
  rw [a2]
  have hnd : isNew A d.2.2 = true := by rw [isNew_d hd]; exact hdn
  have hb := next_1 hnx
  have hbu := next_used hnx
  have hne : d.2.2 ≠ b := fun e => hbu (by rw [← e]; exact a5)
  have hbD : b ∉ D := fun e => hbu (a8 b e).2.2.1
  have e1 := digA_1 A b (.inl l)
  have d1 := digA_d hd b (.inl l)
  have hC : ∀ e, (layA (digA A b (.inl l)) d.2.2 (.inr (ins D j b))).1 e = if e = d.2.2 then (1, .inr (ins D j b), aFw A d.2.2) else if e = b then (1, .inl l, aFw A b) else A.1 e := fun e => by
    rw [layA_1, digA_11]
    have : aSt (digA A b (.inl l)) d.2.2 = 1 ∧ aFw (digA A b (.inl l)) d.2.2 = aFw A d.2.2 := by unfold aSt aFw; rw [digA_11, if_neg hne]; exact ⟨a5, rfl⟩
    rw [this.1, this.2]
  have d3 : aDr (layA (digA A b (.inl l)) d.2.2 (.inr (ins D j b))) = some (va_up d.1 b true, d.2) := d1
  have r2 : (layA (digA A b (.inl l)) d.2.2 (.inr (ins D j b))).2.1 = A.2.1 ∧ (layA (digA A b (.inl l)) d.2.2 (.inr (ins D j b))).2.2.1 = A.2.2.1 ∧ (layA (digA A b (.inl l)) d.2.2 (.inr (ins D j b))).2.2.2.2 = A.2.2.2.2 := e1.2
  generalize layA (digA A b (.inl l)) d.2.2 (.inr (ins D j b)) = C at hC d3 r2 ⊢
  have pC : ∀ e, e ≠ d.2.2 → e ≠ b → C.1 e = A.1 e := fun e h1 h2 => by rw [hC, if_neg h1, if_neg h2]
  have pN : ∀ e, e ≠ b → isNew C e = isNew A e := fun e h1 => by rw [isNew_d d3, isNew_d hd]; exact vup_ne h1
  have pd : aPg C d.2.2 = .inr (ins D j b) ∧ aSt C d.2.2 = 1 := by unfold aPg aSt; rw [hC, if_pos rfl]; exact ⟨rfl, rfl⟩
  have pb : aPg C b = .inl l ∧ aSt C b = 1 := by unfold aPg aSt; rw [hC, if_neg (fun e => hne e.symm), if_pos rfl]; exact ⟨rfl, rfl⟩
  have pS : ∀ e, aSt A e = 1 → aSt C e = 1 := fun e he => by
    by_cases h1 : e = d.2.2
    · rw [h1]; exact pd.2
    · by_cases h2 : e = b
      · rw [h2]; exact pb.2
      · unfold aSt; rw [pC e h1 h2]; exact he
  have hw := (WFs_pres h.1 r2.1 r2.2.1 (fun e he => by
    have h1 : e ≠ d.2.2 := fun e1 => new_kept h.1 hnd (by rw [← e1]; exact he)
    have h2 : e ≠ b := fun e1 => next_kept h.1 hnx (by rw [← e1]; exact he)
    exact ⟨pC e h1 h2, pN e h2⟩)).1
  have hlb2 : d.2.1 b = false := by
    cases hx : d.2.1 b with
    | false => rfl
    | true => exact absurd (a11 b hb.1 hx) hbu
  have hlen : (ins D j b).length ≤ 6 := by
    unfold ins
    rw [List.length_append, List.length_cons, List.length_take, List.length_drop]
    omega
  refine ⟨WF_mk hw d3 (WFd_mk (D := ins D j b) d3 a1 pd.1 pd.2 hlen (ins_nodup a7 hbD) (fun e he => ?_) (by show va_up d.1 b true d.2.2 = true; rw [vup_ne hne]; exact hdn) (fun e he hx => ?_) (fun e he hx => pS e (a11 e he hx))), d3, any_of d3 hb.1 (vup_at _ _ _)⟩
  · rcases ins_mem.mp he with e1 | e1
    · rw [e1]; exact ⟨hb.1, ⟨l, pb.1, hl⟩, pb.2, hlb2⟩
    · obtain ⟨b1, b2, b3, b4, b5⟩ := a8 e e1
      have h2 : e ≠ b := fun e2 => hbD (by rw [← e2]; exact e1)
      refine ⟨b1, ?_, pS e b3, b4⟩
      unfold aPg
      rw [pC e b5 h2]
      exact b2
  · have hx : va_up d.1 b true e = true := hx
    by_cases e1 : e = b
    · rw [e1]; exact ⟨pb.2, hlb2⟩
    · rw [vup_ne e1] at hx
      exact ⟨pS e (a10 e he hx).1, (a10 e he hx).2⟩
/-- a leaf goes -/
theorem WF_drop {n : Nat} {A : aG} (h : WF n A) {d : aD} (hd : aDr A = some d) (ha : anyNew A = true) {place : Nat} (hp : place < (dirL A (drD A)).length) :
    WF n (leaveA (layA A (drD A) (.inr ((dirL A (drD A)).eraseIdx place))) ((dirL A (drD A)).getD place 0)) := by
  obtain ⟨D, a1, a2, a3, a4, a5, a6, a7, a8, a9, a10, a11⟩ := WF_d h hd
  have hdn := (h.2 d hd).2.2.1 ha
  rw [a4] at hp ⊢
  rw [a2]
  have hnd : isNew A d.2.2 = true := by rw [isNew_d hd]; exact hdn
  have hlf : D.getD place 0 ∈ D := getD_mem hp
  have hgone := era_gone a7 hp
  obtain ⟨f1, f2, f3, f4, f5⟩ := a8 _ hlf
  generalize D.getD place 0 = lf at hlf f1 f2 f3 f4 f5 hgone ⊢
  have hL : ∀ e, (layA A d.2.2 (.inr (D.eraseIdx place))).1 e = if e = d.2.2 then (aSt A d.2.2, .inr (D.eraseIdx place), aFw A d.2.2) else A.1 e := fun e => layA_1 A d.2.2 e _
  have d2 : aDr (layA A d.2.2 (.inr (D.eraseIdx place))) = some d := hd
  have r2 : (layA A d.2.2 (.inr (D.eraseIdx place))).2 = A.2 := rfl
  have hn2 : ∀ e, isNew (layA A d.2.2 (.inr (D.eraseIdx place))) e = isNew A e := fun e => rfl
  generalize layA A d.2.2 (.inr (D.eraseIdx place)) = C1 at hL d2 r2 hn2 ⊢
  have e3 := leaveA_1 C1 lf
  have d3 := leaveA_d d2 lf
  rw [hn2] at e3
  generalize leaveA C1 lf = C at e3 d3 ⊢
  have hr : C.2.1 = A.2.1 := e3.2.1.trans (by rw [r2])
  have hrd : C.2.2.1 = A.2.2.1 := e3.2.2.1.trans (by rw [r2])
  have pC1 : ∀ e, e ≠ d.2.2 → C1.1 e = A.1 e := fun e h1 => by rw [hL, if_neg h1]
  have pC : ∀ e, e ≠ lf → C.1 e = C1.1 e := fun e h1 => by
    rw [e3.1]
    split
    · exact vup_ne h1
    · rfl
  have hlen : (D.eraseIdx place).length ≤ 6 := by
    rw [List.length_eraseIdx]
    split <;> omega
  have hnod : (D.eraseIdx place).Nodup := List.Nodup.sublist (List.eraseIdx_sublist _ _) a7
  have pd : aPg C d.2.2 = .inr (D.eraseIdx place) ∧ aSt C d.2.2 = 1 := by
    unfold aPg aSt
    rw [pC _ (fun e => f5 e.symm), hL, if_pos rfl]
    exact ⟨rfl, a5⟩
  by_cases c : isNew A lf = true
  · have hlfn : d.1 lf = true := by rw [← isNew_d hd]; exact c
    rw [hlfn, if_pos rfl] at d3
    have pN : ∀ e, e ≠ lf → isNew C e = isNew A e := fun e h1 => by rw [isNew_d d3, isNew_d hd]; exact vup_ne h1
    have hw := (WFs_pres h.1 hr hrd (fun e he => by
      have h1 : e ≠ d.2.2 := fun e1 => new_kept h.1 hnd (by rw [← e1]; exact he)
      have h2 : e ≠ lf := fun e1 => new_kept h.1 c (by rw [← e1]; exact he)
      exact ⟨(pC e h2).trans (pC1 e h1), pN e h2⟩)).1
    refine WF_mk hw d3 (WFd_mk (D := D.eraseIdx place) d3 a1 pd.1 pd.2 hlen hnod (fun e he => ?_) (by show va_up d.1 lf false d.2.2 = true; rw [vup_ne (fun e => f5 e.symm)]; exact hdn) (fun e he hx => ?_) (fun e he hx => ?_))
    · obtain ⟨b1, b2, b3, b4, b5⟩ := a8 e (era_mem he)
      have h2 : e ≠ lf := fun e2 => hgone (by rw [← e2]; exact he)
      refine ⟨b1, ?_, ?_, b4⟩
      · unfold aPg; rw [pC e h2, pC1 e b5]; exact b2
      · unfold aSt; rw [pC e h2, pC1 e b5]; exact b3
    · have hx : va_up d.1 lf false e = true := hx
      have h2 : e ≠ lf := fun e2 => by rw [e2, vup_at] at hx; cases hx
      rw [vup_ne h2] at hx
      refine ⟨?_, (a10 e he hx).2⟩
      by_cases h1 : e = d.2.2
      · rw [h1]; exact pd.2
      · unfold aSt; rw [pC e h2, pC1 e h1]; exact (a10 e he hx).1
    · have hx : d.2.1 e = true := hx
      have h2 : e ≠ lf := fun e2 => by rw [e2, f4] at hx; cases hx
      by_cases h1 : e = d.2.2
      · rw [h1]; exact pd.2
      · unfold aSt; rw [pC e h2, pC1 e h1]; exact a11 e he hx
  · have c' : isNew A lf = false := by cases hx : isNew A lf with | false => rfl | true => exact absurd hx c
    have hlfn : d.1 lf = false := by rw [← isNew_d hd]; exact c'
    rw [hlfn, if_neg (by decide)] at d3
    rw [c', if_neg (by decide)] at e3
    have pN : ∀ e, isNew C e = isNew A e := fun e => by rw [isNew_d d3, isNew_d hd]
    have pA : ∀ e, e ≠ d.2.2 → C.1 e = A.1 e := fun e h1 => by rw [e3.1, pC1 e h1]
    have hw := (WFs_pres h.1 hr hrd (fun e he => by
      have h1 : e ≠ d.2.2 := fun e1 => new_kept h.1 hnd (by rw [← e1]; exact he)
      exact ⟨pA e h1, pN e⟩)).1
    have pS : ∀ e, aSt A e = 1 → aSt C e = 1 := fun e he => by
      by_cases h1 : e = d.2.2
      · rw [h1]; exact pd.2
      · unfold aSt; rw [pA e h1]; exact he
    refine WF_mk hw d3 (WFd_mk (D := D.eraseIdx place) d3 a1 pd.1 pd.2 hlen hnod (fun e he => ?_) hdn (fun e he hx => ?_) (fun e he hx => ?_))
    · obtain ⟨b1, b2, b3, b4, b5⟩ := a8 e (era_mem he)
      have h2 : e ≠ lf := fun e2 => hgone (by rw [← e2]; exact he)
      refine ⟨b1, ?_, pS e b3, ?_⟩
      · unfold aPg; rw [pA e b5]; exact b2
      · show va_up d.2.1 lf true e = false
        rw [vup_ne h2]; exact b4
    · have hx : d.1 e = true := hx
      have h2 : e ≠ lf := fun e2 => by rw [e2, hlfn] at hx; cases hx
      refine ⟨pS e (a10 e he hx).1, ?_⟩
      show va_up d.2.1 lf true e = false
      rw [vup_ne h2]; exact (a10 e he hx).2
    · have hx : va_up d.2.1 lf true e = true := hx
      by_cases e1 : e = lf
      · rw [e1]; exact pS lf f3
      · rw [vup_ne e1] at hx
        exact pS e (a11 e he hx)
