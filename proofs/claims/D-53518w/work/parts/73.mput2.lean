/-! the reference: directory, ownLeaf, splits -/
theorem MR0_congr {P P' : mR} {A A' : aG} (h : MR0 P A) (h1 : A'.1 = A.1) (hn : ∀ b, isNew A' b = isNew A b) (hl : ∀ b, isLeft A' b = isLeft A b) (hr : A'.2.1 = A.2.1) (hd : A'.2.2.1 = A.2.2.1) (hP : ∀ j, j < 466 → P' j = P j) : MR0 P' A' := by
  refine ⟨fun b hb => MRb_congr (h.1 b hb) (fun j _ _ => hP j (by omega)) (by rw [h1]) (hn b) (hl b), fun r hr2 => ?_, fun k hk => ?_, trivial⟩
  · rw [hP _ (by omega), hP _ (by omega), hP _ (by omega)]
    unfold aRt
    rw [hr]
    exact h.2.1 r hr2
  · rw [hP _ (by omega), hP _ (by omega), hP _ (by omega)]
    unfold aRd
    rw [hd]
    exact h.2.2.1 k hk
/-- the row's end: draft, commits, lost -/
def MRt (P : mR) (A : aG) : Prop := (match aDr A with | none => P 466 = 0 ∧ P 467 = -1 | some d => P 466 = 1 ∧ ((∃ b, b < 32 ∧ d.1 b = true) → P 467 = Int32.ofNat d.2.2) ∧ ((∀ b, b < 32 → d.1 b = false) → P 467 = -1 ∧ d.2.2 = nowD A)) ∧ P 468 = aCm A ∧ P 469 = aLs A
theorem MR_mk {P : mR} {A : aG} (h : MR0 P A) (ht : MRt P A) : MR P A := ⟨h.1, h.2.1, h.2.2.1, ht.1, ht.2.1, ht.2.2⟩
theorem MRt_of {P : mR} {A : aG} (h : MR P A) : MRt P A := ⟨h.2.2.2.1, h.2.2.2.2.1, h.2.2.2.2.2⟩
/-- a draft with a change stays so -/
theorem MRt_keep {P P' : mR} {A A' : aG} (h : MRt P A) {d' : aD} (ha : anyNew A = true) (hd : aDr A' = some d') (h2 : d'.2.2 = drD A) (h3 : ∃ b, b < 32 ∧ d'.1 b = true) (hc : A'.2.2.2.2 = A.2.2.2.2) (hP : ∀ j, 466 ≤ j → P' j = P j) : MRt P' A' := by
  obtain ⟨t1, t2, t3⟩ := h
  obtain ⟨d, e1, b, e2, e3⟩ := any_iff.mp ha
  rw [e1] at t1
  simp only at t1
  obtain ⟨u1, u2, u3⟩ := t1
  rw [drD_d e1] at h2
  unfold MRt
  rw [hd]
  refine ⟨⟨by rw [hP _ (by omega)]; exact u1, fun _ => by rw [hP _ (by omega), h2]; exact u2 ⟨b, e2, e3⟩, fun e => ?_⟩, ?_, ?_⟩
  · obtain ⟨c, c1, c2⟩ := h3
    rw [e c c1] at c2
    cases c2
  · rw [hP _ (by omega), t2]; unfold aCm; rw [hc]
  · rw [hP _ (by omega), t3]; unfold aLs; rw [hc]
section Q
variable {κ : gK} {F : Nat} {m : Nat} {V : mV} {σ : gS}
theorem q_g467 {k : Nat} {W : mV} (hk : vp W 467 = Int32.ofNat k) : gaI (MH m W σ) (some (m + 1)) 0 (467 : Int32) = some (Int32.ofNat k) := by
  rw [← hk]
  exact MH_gvp (k := 467) rfl (by omega)
theorem q_directory {n : Nat} {A : aG} (h : MR (vp V) A) (hw : WF n A) (hm : κ.1 ≤ m) (hF : 40 ≤ F) (hd : isDr A = true) (hn : anyNew A = false → 0 < many A) :
    ∃ P', f_X6_directory κ F (some m) (MH m V σ) = some (Int32.ofNat (drD (ownDirA A)), MH m (wp V P') σ) ∧ MR P' (ownDirA A) := by
  have h1 := q_first h
  have hg : gaI (MH m V σ) (some (m + 1)) 0 (467 : Int32) = some (vp V 467) := MH_gvp (k := 467) rfl (by omega)
  have hD32 := drD_lt hw
  unfold ownDirA
  by_cases ha : anyNew A = true
  · rw [if_pos ha] at h1 ⊢
    refine ⟨vp V, ?_, h⟩
    rw [f_X6_directory, f_X6_directory_0, MH_rvp, gB1_s, hg, gB1_s, h1, if_pos (Int32.not_lt.mp (i3_ok (by omega)).1), f_X6_directory_47, MH_rvp, gB1_s, hg, gB1_s, h1]
    rfl
  · rw [if_neg ha] at h1 ⊢
    have ha : anyNew A = false := by cases hx : anyNew A with | false => rfl | true => exact absurd hx ha
    obtain ⟨d, hd2⟩ := isDr_d hd
    obtain ⟨D, a1, a2, a3, a4, a5, a6, a7, a8, a9, a10, a11⟩ := WF_d hw hd2
    have hnx := nxt_of (hn ha)
    have hdn : d.2.2 = nowD A := (hw.2 d hd2).2.2.2.1 ha
    generalize nxt A = b at hnx
    have hb := next_1 hnx
    have hbu := next_used hnx
    have hlb : isLeft A b = false := by
      cases hx : isLeft A b with
      | false => rfl
      | true => rw [isLeft_d hd2] at hx; exact absurd (a11 b hb.1 hx) hbu
    have hne : d.2.2 ≠ b := fun e => hbu (by rw [← e]; exact a5)
    obtain ⟨P1, p1, p2, p3, p4⟩ := q_dig (κ := κ) (F := F) (m := m) (V := V) (σ := σ) (MR_0 h) hm hF hd hnx hlb (x := 1) (p := .inr []) (Or.inr ⟨rfl, rfl⟩)
    have s1 : gsI κ (MH m (wp V P1) σ) (some (m + 1)) (467 : Int32) (Int32.ofNat b) = some (MH m (wp V (va_up P1 467 (Int32.ofNat b))) σ) := MH_svp hm (k := 467) rfl (by omega) _
    -- the directory's page over the new bed
    have m2 : MR0 (vp (wp V (va_up P1 467 (Int32.ofNat b)))) (digA A b (.inr [])) := MR0_congr p2 rfl (fun _ => rfl) (fun _ => rfl) rfl rfl (fun j hj => vup_ne (by omega))
    have pd : aPg (digA A b (.inr [])) d.2.2 = .inr D ∧ aSt (digA A b (.inr [])) d.2.2 = 1 := by unfold aPg aSt; rw [digA_11, if_neg hne]; exact ⟨a3, a5⟩
    have pb : aPg (digA A b (.inr [])) b = .inr [] ∧ aSt (digA A b (.inr [])) b = 1 := by unfold aPg aSt; rw [digA_11, if_pos rfl]; exact ⟨rfl, rfl⟩
    obtain ⟨P2, c1, c2, c3⟩ := q_copies (κ := κ) (F := F) (m := m) (V := wp V (va_up P1 467 (Int32.ofNat b))) (σ := σ) m2 hm hF a1 hb.1 hne (by rw [pd.2]; decide) (by rw [pb.2]; decide) (by rw [pb.1, pd.1]; rfl)
    rw [pd.1, layA_digA] at c2
    have d1 := digA_d hd2 b (.inr D)
    have hdr1 : isDr (digA A b (.inr D)) = true := by unfold isDr; rw [d1]; rfl
    have hdf := any_not hd2 ha a1
    have hnn : isNew (digA A b (.inr D)) d.2.2 = false := by rw [isNew_d d1]; show va_up d.1 b true d.2.2 = false; rw [vup_ne hne]; exact hdf
    obtain ⟨P3, l1, l2, l3⟩ := q_leaves (κ := κ) (F := F) (m := m) (V := wp V P2) (σ := σ) c2 hm hF hdr1 a1 (fun e => by rw [hnn] at e; cases e)
    have e467 : P3 467 = Int32.ofNat b := by rw [l3 _ (by omega)]; show P2 467 = _; rw [c3 _ (by omega)]; show va_up P1 467 (Int32.ofNat b) 467 = _; exact vup_at _ _ _
    have ehi : ∀ j, 448 ≤ j → j ≠ 467 → P3 j = vp V j := fun j hj hj2 => by rw [l3 _ (by omega)]; show P2 j = _; rw [c3 _ (by omega)]; show va_up P1 467 _ j = _; rw [vup_ne hj2, p4 _ (by omega)]
    -- the garden with and without the draft's directory told
    have dd := setDD_d d1 b
    have e2 := setDD_1 (digA A b (.inr D)) b
    have x1 := leaveA_1 (digA A b (.inr D)) d.2.2
    have x2 := leaveA_1 (setDD (digA A b (.inr D)) b) d.2.2
    have hnn2 : isNew (setDD (digA A b (.inr D)) b) d.2.2 = false := by rw [isNew_d dd, ← isNew_d d1]; exact hnn
    have y1 := leaveA_d d1 d.2.2
    have y2 := leaveA_d dd d.2.2
    have hvn : va_up d.1 b true d.2.2 = false := by rw [vup_ne hne]; exact hdf
    simp only at y1 y2
    rw [hvn, if_neg (by decide)] at y1 y2
    rw [hnn, if_neg (by decide)] at x1
    rw [hnn2, if_neg (by decide)] at x2
    have hMR0 : MR0 P3 (leaveA (setDD (digA A b (.inr D)) b) d.2.2) := by
      refine MR0_congr l2 (by rw [x2.1, e2.1, x1.1]) (fun c => by rw [isNew_d y2, isNew_d y1]) (fun c => by rw [isLeft_d y2, isLeft_d y1]) (by rw [x2.2.1, e2.2.1, x1.2.1]) (by rw [x2.2.2.1, e2.2.2.1, x1.2.2.1]) (fun _ _ => rfl)
    rw [a2, a3]
    have e1 := digA_1 A b (.inr D)
    have hcm : (leaveA (setDD (digA A b (.inr D)) b) d.2.2).2.2.2.2 = A.2.2.2.2 := x2.2.2.2.trans (e2.2.2.2.trans e1.2.2.2)
    have hMRt : MRt P3 (leaveA (setDD (digA A b (.inr D)) b) d.2.2) := by
      obtain ⟨t1, t2, t3⟩ := MRt_of h
      rw [hd2] at t1
      unfold MRt
      rw [y2]
      refine ⟨⟨by rw [ehi _ (by omega) (by omega)]; exact t1.1, fun _ => e467, fun e => ?_⟩, ?_, ?_⟩
      · have := e b hb.1
        have this : va_up d.1 b true b = false := this
        rw [vup_at] at this
        cases this
      · rw [ehi _ (by omega) (by omega), t2]; unfold aCm; rw [hcm]
      · rw [ehi _ (by omega) (by omega), t3]; unfold aLs; rw [hcm]
    refine ⟨P3, ?_, MR_mk hMR0 hMRt⟩
    have hok : okNow A := hw.1.1
    rw [f_X6_directory, f_X6_directory_0, MH_rvp, gB1_s, hg, gB1_s, h1, if_neg (by decide), MH_ck, gB1_s, q_now (MR_0 h) hok, gB2_s, ← hdn, MH_rvp, gB1_s, MH_ck, gB1_s, p1, gB2_s, s1, gB1_s, MH_rvp, gB1_s, q_g467 (k := b) (W := wp V (va_up P1 467 (Int32.ofNat b))) (show va_up P1 467 (Int32.ofNat b) 467 = _ from vup_at _ _ _), gB1_s, MH_ck, gB1_s, c1, gB2_s, MH_ck, gB1_s, wp_wp, l1, gB2_s, wp_wp, f_X6_directory_47, MH_rvp, gB1_s, q_g467 (k := b) (W := wp V P3) e467, gB1_s, drD_d y2]
/-- the leaf at a place is the draft's own from now on -/
theorem q_ownLeaf {n : Nat} {A : aG} (h : MR (vp V) A) (hw : WF n A) (hm : κ.1 ≤ m) (hF : 40 ≤ F) {d : aD} (hd : aDr A = some d) (ha : anyNew A = true) {place : Nat} (hp : place < (dirL A (drD A)).length) (hn : isNew A ((dirL A (drD A)).getD place 0) = false → 0 < many A) :
    ∃ P' c, f_X6_ownLeaf κ F (some m) (Int32.ofNat (drD A)) (Int32.ofNat place) (MH m V σ) = some (Int32.ofNat c, MH m (wp V P') σ) ∧ MR P' (changeA A place (leafL A ((dirL A (drD A)).getD place 0))) ∧
      c = (if isNew A ((dirL A (drD A)).getD place 0) then (dirL A (drD A)).getD place 0 else nxt A) := by
  obtain ⟨D, a1, a2, a3, a4, a5, a6, a7, a8, a9, a10, a11⟩ := WF_d hw hd
  have hdn := (hw.2 d hd).2.2.1 ha
  unfold changeA
  rw [a4] at hp hn ⊢
  rw [a2]
  simp only
  have hlf : D.getD place 0 ∈ D := getD_mem hp
  obtain ⟨b1, b2, b3, b4⟩ := MR_dir (MR_0 h) a1 (by rw [a5]; decide) a3
  have q1 : f_X6_leafAt κ F (some m) (Int32.ofNat d.2.2) (Int32.ofNat place) (MH m V σ) = some (Int32.ofNat (D.getD place 0), MH m V σ) := by rw [q_leafAt (by omega), b4 place hp]
  obtain ⟨f1, ⟨l, f2, f2'⟩, f3, f4, f5⟩ := a8 _ hlf
  generalize D.getD place 0 = lf at hlf f1 f2 f3 f4 f5 hn q1 ⊢
  have r4 := (h.1 lf f1).2.2.2.1
  rw [leafL_of f2]
  by_cases c : isNew A lf = true
  · refine ⟨vp V, lf, ?_, ?_, by rw [if_pos c]⟩
    · rw [f_X6_ownLeaf, f_X6_ownLeaf_0, MH_ck, gB1_s, q1, gB2_s, MH_ck, gB1_s, q_of4 f1, gB2_s, r4, if_pos c, if_pos rfl]
      rfl
    · rw [if_pos c, layA_self f2]
      exact h
  · have c' : isNew A lf = false := by cases hx : isNew A lf with | false => rfl | true => exact absurd hx c
    rw [if_neg c, if_neg c]
    have hnx := nxt_of (hn c')
    generalize nxt A = b at hnx
    have hb := next_1 hnx
    have hbu := next_used hnx
    have hlb : isLeft A b = false := by
      cases hx : isLeft A b with
      | false => rfl
      | true => rw [isLeft_d hd] at hx; exact absurd (a11 b hb.1 hx) hbu
    have hne : d.2.2 ≠ b := fun e => hbu (by rw [← e]; exact a5)
    have hnl : lf ≠ b := fun e => hbu (by rw [← e]; exact f3)
    have hdr : isDr A = true := by unfold isDr; rw [hd]; rfl
    obtain ⟨P1, p1, p2, p3, p4⟩ := q_dig (κ := κ) (F := F) (m := m) (V := V) (σ := σ) (MR_0 h) hm hF hdr hnx hlb (x := 0) (p := .inl []) (Or.inl ⟨rfl, rfl⟩)
    have pd : aPg (digA A b (.inl [])) lf = .inl l ∧ aSt (digA A b (.inl [])) lf = 1 := by unfold aPg aSt; rw [digA_11, if_neg hnl]; exact ⟨f2, f3⟩
    have pb : aPg (digA A b (.inl [])) b = .inl [] ∧ aSt (digA A b (.inl [])) b = 1 := by unfold aPg aSt; rw [digA_11, if_pos rfl]; exact ⟨rfl, rfl⟩
    obtain ⟨P2, c1, c2, c3⟩ := q_copies (κ := κ) (F := F) (m := m) (V := wp V P1) (σ := σ) p2 hm hF f1 hb.1 hnl (by rw [pd.2]; decide) (by rw [pb.2]; decide) (by rw [pb.1, pd.1]; rfl)
    rw [pd.1, layA_digA] at c2
    have d1 := digA_d hd b (.inl l)
    have hdr1 : isDr (digA A b (.inl l)) = true := by unfold isDr; rw [d1]; rfl
    have hvn : va_up d.1 b true lf = false := by rw [vup_ne hnl, ← isNew_d hd]; exact c'
    have hnn : isNew (digA A b (.inl l)) lf = false := by rw [isNew_d d1]; exact hvn
    obtain ⟨P3, l1, l2, l3⟩ := q_leaves (κ := κ) (F := F) (m := m) (V := wp V P2) (σ := σ) c2 hm hF hdr1 f1 (fun e => by rw [hnn] at e; cases e)
    have x1 := leaveA_1 (digA A b (.inl l)) lf
    rw [hnn, if_neg (by decide)] at x1
    have y1 := leaveA_d d1 lf
    simp only at y1
    rw [hvn, if_neg (by decide)] at y1
    have hdirP : (leaveA (digA A b (.inl l)) lf).1 d.2.2 = A.1 d.2.2 := by rw [x1.1, digA_11, if_neg hne]
    have hdp : aPg (leaveA (digA A b (.inl l)) lf) d.2.2 = .inr D ∧ aSt (leaveA (digA A b (.inl l)) lf) d.2.2 ≠ 0 := by unfold aPg aSt; rw [hdirP]; exact ⟨a3, by rw [show (A.1 d.2.2).1 = 1 from a5]; decide⟩
    obtain ⟨z1, z2, z3, z4⟩ := MR_dir l2 a1 hdp.2 hdp.1
    have hlayq := q_lay (κ := κ) (F := F) (m := m) (V := wp V P3) (σ := σ) hm (b := d.2.2) (w := 6 + place) (x := Int32.ofNat b) (by omega)
    have hx6 : (6 : Int32) + Int32.ofNat place = Int32.ofNat (6 + place) := i3_add 6 place
    have hMR0 : MR0 (va_up P3 (14 * d.2.2 + (6 + place)) (Int32.ofNat b)) (layA (leaveA (digA A b (.inl l)) lf) d.2.2 (.inr (D.set place b))) := by
      refine MR0_lay l2 a1 (fun j h1 h2 => vup_ne (by omega)) ⟨by rw [vup_ne (by omega)]; exact z1, by rw [vup_ne (by omega), List.length_set]; exact z2, by rw [List.length_set]; exact a6, fun i hi => ?_⟩
      rw [List.length_set] at hi
      by_cases e : i = place
      · subst e
        rw [getD_get (by rw [List.length_set]; exact hi), List.getElem_set_self]
        exact vup_at _ _ _
      · rw [vup_ne (by omega), getD_get (by rw [List.length_set]; exact hi), List.getElem_set_ne (fun e2 => e e2.symm), ← getD_get (x := 0) hi]
        exact z4 i hi
    have hnd2 : lf ≠ d.2.2 := f5
    rw [layA_leaveA hnd2] at hMR0
    have hdig2 : (layA (digA A b (.inl l)) d.2.2 (.inr (D.set place b))) = (layA (digA A b (.inl l)) d.2.2 (.inr (D.set place b))) := rfl
    have dL : aDr (layA (digA A b (.inl l)) d.2.2 (.inr (D.set place b))) = some (va_up d.1 b true, d.2) := d1
    have y2 := leaveA_d dL lf
    simp only at y2
    rw [hvn, if_neg (by decide)] at y2
    have x2 := leaveA_1 (layA (digA A b (.inl l)) d.2.2 (.inr (D.set place b))) lf
    have hcm : (leaveA (layA (digA A b (.inl l)) d.2.2 (.inr (D.set place b))) lf).2.2.2.2 = A.2.2.2.2 := x2.2.2.2.trans (digA_1 A b (.inl l)).2.2.2
    refine ⟨va_up P3 (14 * d.2.2 + (6 + place)) (Int32.ofNat b), b, ?_, MR_mk hMR0 (MRt_keep (MRt_of h) ha y2 a2.symm ⟨b, hb.1, vup_at _ _ _⟩ hcm (fun j hj => ?_)), rfl⟩
    · rw [f_X6_ownLeaf, f_X6_ownLeaf_0, MH_ck, gB1_s, q1, gB2_s, MH_ck, gB1_s, q_of4 f1, gB2_s, r4, if_neg c, if_neg (by decide), MH_ck, gB1_s, p1, gB2_s, MH_ck, gB1_s, c1, gB2_s, MH_ck, gB1_s, wp_wp, l1, gB2_s, MH_ck, gB1_s, wp_wp, hx6, hlayq, gB2_s]
      rfl
    · rw [vup_ne (by omega), l3 _ (by omega)]
      show P2 j = _
      rw [c3 _ (by omega)]
      exact p4 _ (by omega)
end Q
