/-! the reference: remove -/
theorem era_getD {α : Type} {l : List α} {i k : Nat} {d : α} : (l.eraseIdx i).getD k d = if k < i then l.getD k d else l.getD (k + 1) d := by
  rw [List.getD_eq_getElem?_getD, List.getElem?_eraseIdx]
  split <;> rw [List.getD_eq_getElem?_getD]
theorem era_len {α : Type} {l : List α} {i : Nat} (h : i < l.length) : (l.eraseIdx i).length = l.length - 1 := by
  rw [List.length_eraseIdx, if_pos h]
section Q
variable {κ : gK} {F : Nat} {m : Nat} {V : mV} {σ : gS}
theorem q_rem247 {b i : Nat} {l : List (Int32 × Int32)} (hm : κ.1 ≤ m) (hb : b < 32) (hl : l.length ≤ 4) (hi : i < l.length) {r : Int32}
    (h1 : vp V (14 * b + 1) = 0) (h2 : vp V (14 * b + 2) = Int32.ofNat l.length) : ∀ (d fuel k : Nat) (P : mR), k + d + 1 = l.length → d < fuel → i ≤ k → (∀ x, (x < 14 * b + 6 ∨ 14 * b + 14 ≤ x) → P x = vp V x) →
    (∀ e, e < k → P (14 * b + (6 + 2 * e)) = ((l.eraseIdx i).getD e (0, 0)).1 ∧ P (14 * b + (6 + 2 * e + 1)) = ((l.eraseIdx i).getD e (0, 0)).2) → (∀ e, k ≤ e → e < l.length → P (14 * b + (6 + 2 * e)) = (l.getD e (0, 0)).1 ∧ P (14 * b + (6 + 2 * e + 1)) = (l.getD e (0, 0)).2) →
    ∃ P', f_X6_doRemove_247 κ F fuel (some m) r (Int32.ofNat b) (Int32.ofNat k) (MH m (wp V P) σ) = some (r, MH m (wp V P') σ) ∧ MRp P' b (.inl (l.eraseIdx i)) ∧ (∀ x, x ≠ 14 * b + 2 → (x < 14 * b + 6 ∨ 14 * b + 14 ≤ x) → P' x = vp V x)
  | 0, fuel, k, P, hk, hf, hik, hP, hlo, hhi => by
    obtain ⟨f, rfl⟩ : ∃ f, fuel = f + 1 := ⟨fuel - 1, by omega⟩
    have hk1 : k + 1 = l.length := by omega
    have e2 : f_X6_of κ F (some m) (Int32.ofNat b) (2 : Int32) (MH m (wp V P) σ) = some (Int32.ofNat (k + 1), MH m (wp V P) σ) := by
      rw [q_of2 hb]
      show some (P _, _) = _
      rw [hP _ (by omega), h2, hk1]
    refine ⟨va_up P (14 * b + 2) (Int32.ofNat k), ?_, ⟨by rw [vup_ne (by omega), hP _ (by omega), h1], by rw [era_len hi, vup_at, ← hk1]; rfl, by rw [era_len hi]; omega, fun e he => ?_⟩, fun x hx hx2 => by rw [vup_ne (by omega), hP x hx2]⟩
    · rw [f_X6_doRemove_247, f_X6_doRemove_247b, MH_ck, gB1_s, e2, gB2_s, i3_s, if_pos (Int32.le_refl _), MH_ck, gB1_s, e2, gB2_s, MH_ck, gB1_s, i3_p, q_lay2 hm hb, gB2_s, wp_wp]
      rfl
    · rw [era_len hi] at he
      rw [vup_ne (by omega), vup_ne (by omega)]
      exact hlo e (by omega)
  | d + 1, fuel, k, P, hk, hf, hik, hP, hlo, hhi => by
    obtain ⟨f, rfl⟩ : ∃ f, fuel = f + 1 := ⟨fuel - 1, by omega⟩
    have e2 : f_X6_of κ F (some m) (Int32.ofNat b) (2 : Int32) (MH m (wp V P) σ) = some (Int32.ofNat l.length, MH m (wp V P) σ) := by
      rw [q_of2 hb]
      show some (P _, _) = _
      rw [hP _ (by omega), h2]
    have c : ¬ Int32.ofNat l.length ≤ Int32.ofNat (k + 1) := by rw [i3_le (by omega) (by omega)]; omega
    have q1 : f_X6_keyAt κ F (some m) (Int32.ofNat b) (Int32.ofNat (k + 1)) (MH m (wp V P) σ) = some ((l.getD (k + 1) (0, 0)).1, MH m (wp V P) σ) := by rw [q_keyAt (V := wp V P) (by omega)]; show some (P _, _) = _; rw [(hhi (k + 1) (by omega) (by omega)).1]
    have q2 : f_X6_valueAt κ F (some m) (Int32.ofNat b) (Int32.ofNat (k + 1)) (MH m (wp V P) σ) = some ((l.getD (k + 1) (0, 0)).2, MH m (wp V P) σ) := by rw [q_valueAt (V := wp V P) (by omega)]; show some (P _, _) = _; rw [(hhi (k + 1) (by omega) (by omega)).2]
    rw [f_X6_doRemove_247, f_X6_doRemove_247b, MH_ck, gB1_s, e2, gB2_s, i3_s, if_neg c, MH_ck, gB1_s, q1, gB2_s, MH_ck, gB1_s, q2, gB2_s, MH_ck, gB1_s, q_setEntry hm (by omega), gB2_s, wp_wp]
    have hgE : (l.eraseIdx i).getD k (0, 0) = l.getD (k + 1) (0, 0) := by rw [era_getD, if_neg (by omega)]
    refine q_rem247 hm hb hl hi h1 h2 d f (k + 1) _ (by omega) (by omega) (by omega) (fun x hx => by rw [vup_ne (by omega), vup_ne (by omega)]; exact hP x hx) (fun e he => ?_) (fun e he he2 => ?_)
    · by_cases c1 : e = k
      · subst c1
        rw [hgE]
        exact ⟨by rw [vup_ne (by omega)]; exact vup_at _ _ _, vup_at _ _ _⟩
      · rw [vup_ne (by omega), vup_ne (by omega), vup_ne (by omega), vup_ne (by omega)]
        exact hlo e (by omega)
    · rw [vup_ne (by omega), vup_ne (by omega), vup_ne (by omega), vup_ne (by omega)]
      exact hhi e (by omega) he2
theorem q_rem170 {b i : Nat} {D : List Nat} (hm : κ.1 ≤ m) (hb : b < 32) (hl : D.length ≤ 6) (hi : i < D.length) {r : Int32}
    (h1 : vp V (14 * b + 1) = 1) (h2 : vp V (14 * b + 2) = Int32.ofNat D.length) : ∀ (d fuel k : Nat) (P : mR), k + d + 1 = D.length → d < fuel → i ≤ k → (∀ x, (x < 14 * b + 6 ∨ 14 * b + 14 ≤ x) → P x = vp V x) →
    (∀ e, e < k → P (14 * b + (6 + e)) = Int32.ofNat ((D.eraseIdx i).getD e 0)) → (∀ e, k ≤ e → e < D.length → P (14 * b + (6 + e)) = Int32.ofNat (D.getD e 0)) →
    ∃ P', f_X6_doRemove_170 κ F fuel (some m) r (Int32.ofNat b) (Int32.ofNat k) (MH m (wp V P) σ) = some (r, MH m (wp V P') σ) ∧ MRp P' b (.inr (D.eraseIdx i)) ∧ (∀ x, x ≠ 14 * b + 2 → (x < 14 * b + 6 ∨ 14 * b + 14 ≤ x) → P' x = vp V x)
  | 0, fuel, k, P, hk, hf, hik, hP, hlo, hhi => by
    obtain ⟨f, rfl⟩ : ∃ f, fuel = f + 1 := ⟨fuel - 1, by omega⟩
    have hk1 : k + 1 = D.length := by omega
    have e2 : f_X6_of κ F (some m) (Int32.ofNat b) (2 : Int32) (MH m (wp V P) σ) = some (Int32.ofNat (k + 1), MH m (wp V P) σ) := by
      rw [q_of2 hb]
      show some (P _, _) = _
      rw [hP _ (by omega), h2, hk1]
    refine ⟨va_up P (14 * b + 2) (Int32.ofNat k), ?_, ⟨by rw [vup_ne (by omega), hP _ (by omega), h1], by rw [era_len hi, vup_at, ← hk1]; rfl, by rw [era_len hi]; omega, fun e he => ?_⟩, fun x hx hx2 => by rw [vup_ne (by omega), hP x hx2]⟩
    · rw [f_X6_doRemove_170, f_X6_doRemove_170b, MH_ck, gB1_s, e2, gB2_s, i3_s, if_pos (Int32.le_refl _), MH_ck, gB1_s, e2, gB2_s, MH_ck, gB1_s, i3_p, q_lay2 hm hb, gB2_s, wp_wp]
      rfl
    · rw [era_len hi] at he
      rw [vup_ne (by omega)]
      exact hlo e (by omega)
  | d + 1, fuel, k, P, hk, hf, hik, hP, hlo, hhi => by
    obtain ⟨f, rfl⟩ : ∃ f, fuel = f + 1 := ⟨fuel - 1, by omega⟩
    have e2 : f_X6_of κ F (some m) (Int32.ofNat b) (2 : Int32) (MH m (wp V P) σ) = some (Int32.ofNat D.length, MH m (wp V P) σ) := by
      rw [q_of2 hb]
      show some (P _, _) = _
      rw [hP _ (by omega), h2]
    have c : ¬ Int32.ofNat D.length ≤ Int32.ofNat (k + 1) := by rw [i3_le (by omega) (by omega)]; omega
    have q1 : f_X6_leafAt κ F (some m) (Int32.ofNat b) (Int32.ofNat (k + 1)) (MH m (wp V P) σ) = some (Int32.ofNat (D.getD (k + 1) 0), MH m (wp V P) σ) := by rw [q_leafAt (V := wp V P) (by omega)]; show some (P _, _) = _; rw [hhi (k + 1) (by omega) (by omega)]
    have hx6 : (6 : Int32) + Int32.ofNat k = Int32.ofNat (6 + k) := i3_add 6 k
    rw [f_X6_doRemove_170, f_X6_doRemove_170b, MH_ck, gB1_s, e2, gB2_s, i3_s, if_neg c, MH_ck, gB1_s, q1, gB2_s, MH_ck, gB1_s, hx6, q_lay hm (by omega), gB2_s, wp_wp]
    have hgE : (D.eraseIdx i).getD k 0 = D.getD (k + 1) 0 := by rw [era_getD, if_neg (by omega)]
    refine q_rem170 hm hb hl hi h1 h2 d f (k + 1) _ (by omega) (by omega) (by omega) (fun x hx => by rw [vup_ne (by omega)]; exact hP x hx) (fun e he => ?_) (fun e he he2 => ?_)
    · by_cases c1 : e = k
      · subst c1
        rw [hgE]
        exact vup_at _ _ _
      · rw [vup_ne (by omega)]
        exact hlo e (by omega)
    · rw [vup_ne (by omega)]
      exact hhi e (by omega) he2
/-- remove, behind its refusals -/
theorem q_rem42 {n : Nat} {A : aG} (h : MR (vp V) A) (hw : WF n A) (hm : κ.1 ≤ m) (hF : 40 ≤ F) (hdr : isDr A = true) {key : Int32} (h1 : valBy A (drD A) key ≠ -1000) :
    (many A < remBeds A key → f_X6_doRemove_42 κ F (some m) key (valBy A (drD A) key) (MH m V σ) = some (0, MH m (wco V 2) σ)) ∧
    (¬ many A < remBeds A key → ∃ P', f_X6_doRemove_42 κ F (some m) key (valBy A (drD A) key) (MH m V σ) = some (valBy A (drD A) key, MH m (wp V P') σ) ∧ MR P' (remA A key)) := by
  have hgg := q_first h
  have hg : gaI (MH m V σ) (some (m + 1)) 0 (467 : Int32) = some (vp V 467) := MH_gvp (k := 467) rfl (by omega)
  have hD32 := drD_lt hw
  have hok := WF_okD hw hdr
  obtain ⟨d0, hd0⟩ := isDr_d hdr
  have hDl := dirL_lt hw hd0
  have hne : dirL A (drD A) ≠ [] := fun e => h1 (by unfold valBy; rw [e])
  have hlen : 0 < (dirL A (drD A)).length := List.length_pos_iff.mpr hne
  have hpl := plc_lt (A := A) (D := dirL A (drD A)) (key := key) _ hlen
  have hmem : (dirL A (drD A)).getD (plc A (dirL A (drD A)) key (dirL A (drD A)).length) 0 ∈ dirL A (drD A) := getD_mem hpl
  have hvb : valBy A (drD A) key = (match lkp (leafL A ((dirL A (drD A)).getD (plc A (dirL A (drD A)) key (dirL A (drD A)).length) 0)) key with | none => -1000 | some i => ((leafL A ((dirL A (drD A)).getD (plc A (dirL A (drD A)) key (dirL A (drD A)).length) 0)).getD i (0, 0)).2) := by
    unfold valBy
    cases hx : dirL A (drD A) with
    | nil => exact absurd hx hne
    | cons x D => rfl
  have qpl := q_placeFor (κ := κ) (F := F) (m := m) (V := V) (σ := σ) (MR_0 h) hF hok key
  rw [if_neg hne] at qpl
  obtain ⟨z1, z2, z3, z4⟩ := MR_dir (MR_0 h) hok.1 hok.2.1 hok.2.2.1
  have qlf : f_X6_leafAt κ F (some m) (Int32.ofNat (drD A)) (Int32.ofNat (plc A (dirL A (drD A)) key (dirL A (drD A)).length)) (MH m V σ) = some (Int32.ofNat ((dirL A (drD A)).getD (plc A (dirL A (drD A)) key (dirL A (drD A)).length) 0), MH m V σ) := by
    rw [q_leafAt (by omega), z4 _ hpl]
  obtain ⟨g1, g2, g3, g4⟩ := hDl.2 _ hmem
  have qof : f_X6_of κ F (some m) (Int32.ofNat ((dirL A (drD A)).getD (plc A (dirL A (drD A)) key (dirL A (drD A)).length) 0)) (2 : Int32) (MH m V σ) = some (Int32.ofNat (leafL A ((dirL A (drD A)).getD (plc A (dirL A (drD A)) key (dirL A (drD A)).length) 0)).length, MH m V σ) := by
    rw [q_of2 g1, (MR_leaf (MR_0 h) g1 (by rw [g3]; decide) g4).2.1]
  have qn4 : f_X6_of κ F (some m) (Int32.ofNat ((dirL A (drD A)).getD (plc A (dirL A (drD A)) key (dirL A (drD A)).length) 0)) (4 : Int32) (MH m V σ) = some ((if isNew A ((dirL A (drD A)).getD (plc A (dirL A (drD A)) key (dirL A (drD A)).length) 0) then 1 else 0), MH m V σ) := by
    rw [q_of4 g1, (h.1 _ g1).2.2.2.1]
  -- the two numbers of beds, and the drop
  have step : ∀ (a b : Int32) (na nb : Nat) (l5 : Int32), a = Int32.ofNat na → b = Int32.ofNat nb → na ≤ 1 → nb ≤ 1 → na + nb = remBeds A key → (l5 = if (leafL A ((dirL A (drD A)).getD (plc A (dirL A (drD A)) key (dirL A (drD A)).length) 0)).length = 1 then 1 else 0) →
      (many A < remBeds A key → f_X6_doRemove_132 κ F (some m) key (valBy A (drD A) key) (Int32.ofNat (plc A (dirL A (drD A)) key (dirL A (drD A)).length)) (Int32.ofNat ((dirL A (drD A)).getD (plc A (dirL A (drD A)) key (dirL A (drD A)).length) 0)) l5 a b (MH m V σ) = some (0, MH m (wco V 2) σ)) ∧
      (¬ many A < remBeds A key → ∃ P', f_X6_doRemove_132 κ F (some m) key (valBy A (drD A) key) (Int32.ofNat (plc A (dirL A (drD A)) key (dirL A (drD A)).length)) (Int32.ofNat ((dirL A (drD A)).getD (plc A (dirL A (drD A)) key (dirL A (drD A)).length) 0)) l5 a b (MH m V σ) = some (valBy A (drD A) key, MH m (wp V P') σ) ∧ MR P' (remA A key)) := by
    intro a b na nb l5 ha hb hna hnb hsum hl5
    subst ha; subst hb
    have hmany := many_le A
    rw [f_X6_doRemove_132, MH_ck, gB1_s, q_many (MR_0 h) hF, gB2_s, i3_add, hsum]
    constructor
    · intro hlt
      rw [if_neg (by rw [i3_le (by omega) (by omega)]; omega), MH_ck, gB1_s, q_refuse hm, gB2_s]
    · intro hge
      have pre1 : anyNew A = false → 0 < many A := fun e => by unfold remBeds at hge; simp only [e] at hge; simp at hge; omega
      obtain ⟨w1, w2, w3, w4, w5, w6, w7⟩ := WF_own hw hdr pre1
      obtain ⟨d, hdB⟩ := isDr_d w2
      have hlfc : ∀ b ∈ dirL A (drD A), leafL (ownDirA A) b = leafL A b := fun b hb => leafL_congr (w5 b hb).1
      have e1 := plc_congr (key := key) hlfc (dirL A (drD A)).length (Nat.le_refl _)
      obtain ⟨P1, x1, x2⟩ := q_directory (κ := κ) (F := F) (m := m) (V := V) (σ := σ) h hw hm hF hdr pre1
      obtain ⟨DB, b1, b2, b3, b4, b5, b6, b7, b8, b9, b10, b11⟩ := WF_d w1 hdB
      rw [if_pos (by rw [i3_le (by omega) (by omega)]; omega), MH_ck, gB1_s, x1, gB2_s]
      unfold remA
      simp only
      rw [b4] at w4 ⊢
      rw [w4] at b3 b4 b6 b7 b8 ⊢
      rw [e1]
      have hlA := hlfc _ hmem
      have hnw := (w5 _ hmem).2
      rw [hlA]
      have hsumR : remBeds A key = (if anyNew A then 0 else 1) + (if (leafL A ((dirL A (drD A)).getD (plc A (dirL A (drD A)) key (dirL A (drD A)).length) 0)).length = 1 ∨ isNew A ((dirL A (drD A)).getD (plc A (dirL A (drD A)) key (dirL A (drD A)).length) 0) = true then 0 else 1) := rfl
      rw [hsumR] at hge
      generalize plc A (dirL A (drD A)) key (dirL A (drD A)).length = place at hpl hmem hvb hl5 g1 g2 g3 g4 hlA hnw hge ⊢
      have hge2 := hge
      generalize hlfe : (dirL A (drD A)).getD place 0 = lf at hmem hvb hl5 g1 g2 g3 g4 hlA hnw hge ⊢
      generalize hL0 : leafL A lf = l at hvb hl5 g2 g4 hlA hge ⊢
      rw [hl5]
      by_cases cl : l.length = 1
      · rw [if_pos cl, if_neg (by decide), if_neg (by omega), MH_ck, gB1_s]
        have hlnl : isNew (ownDirA A) lf = true → isLeft (ownDirA A) lf = false := fun _ => by rw [isLeft_d hdB]; exact (b8 lf hmem).2.2.2.1
        obtain ⟨P2, y1, y2, y3⟩ := q_leaves (κ := κ) (F := F) (m := m) (V := wp V P1) (σ := σ) (MR_0 x2) hm hF w2 g1 hlnl
        have hlfd : lf ≠ d.2.2 := (b8 lf hmem).2.2.2.2
        have hdirP : (leaveA (ownDirA A) lf).1 d.2.2 = (ownDirA A).1 d.2.2 := by
          rw [(leaveA_1 (ownDirA A) lf).1]
          split
          · exact vup_ne (fun e => hlfd e.symm)
          · rfl
        have hdp : aPg (leaveA (ownDirA A) lf) d.2.2 = .inr (dirL A (drD A)) ∧ aSt (leaveA (ownDirA A) lf) d.2.2 ≠ 0 := by unfold aPg aSt; rw [hdirP]; exact ⟨b3, by rw [show ((ownDirA A).1 d.2.2).1 = 1 from b5]; decide⟩
        obtain ⟨u1, u2, u3, u4⟩ := MR_dir y2 b1 hdp.2 hdp.1
        obtain ⟨P3, v1, v2, v3⟩ := q_rem170 (κ := κ) (F := F) (m := m) (V := wp V P2) (σ := σ) (r := valBy A (drD A) key) hm b1 u3 hpl u1 u2 ((dirL A (drD A)).length - 1 - place) F place P2 (by omega) (by omega) (Nat.le_refl _) (fun _ _ => rfl) (fun e he => by rw [era_getD, if_pos he]; exact u4 e (by omega)) (fun e _ he => u4 e he)
        have M := MR0_lay y2 b1 v3 v2
        rw [layA_leaveA hlfd] at M
        have dd2 := leaveA_d (A := layA (ownDirA A) d.2.2 (.inr ((dirL A (drD A)).eraseIdx place))) hdB lf
        have hdn := (w1.2 d hdB).2.2.1 w3
        refine ⟨P3, ?_, MR_mk (by rw [b2]; exact M) (MRt_keep (MRt_of x2) w3 (by rw [b2]; exact dd2) ?_ ⟨d.2.2, b1, ?_⟩ (leaveA_1 _ lf).2.2.2 (fun j hj => ?_))⟩
        · rw [y1, gB2_s, b2, wp_wp]
          exact v1
        · rw [b2]
          split <;> rfl
        · split
          · show va_up d.1 lf false d.2.2 = true
            rw [vup_ne (fun e => hlfd e.symm)]
            exact hdn
          · exact hdn
        · rw [v3 _ (by omega) (by omega)]
          show P2 j = _
          rw [y3 _ (by omega)]
          rfl
      · rw [if_neg cl, if_pos rfl, MH_ck, gB1_s]
        have hl1 : 1 < l.length := by
          have := List.length_pos_iff.mpr g2.1
          omega
        rw [if_pos hl1]
        have hnz : isNew (ownDirA A) lf = false → 0 < many (ownDirA A) := fun e => by
          rw [hnw] at e
          rw [e, if_neg (show ¬ (l.length = 1 ∨ false = true) from fun h => h.elim cl (fun h => by cases h))] at hge
          omega
        obtain ⟨P2, c, y1, y2, y3⟩ := q_ownLeaf (κ := κ) (F := F) (m := m) (V := wp V P1) (σ := σ) (place := place) x2 w1 hm hF hdB w3 (by rw [b4]; exact hpl) (by rw [b4, hlfe]; exact hnz)
        rw [b4, hlfe] at y2 y3
        obtain ⟨cc, q1, q2, q3, q4, q5, q6, q7, q8, q9, q10, q11, q12, q13, q14, q15⟩ := WF_change (place := place) (l := leafL (ownDirA A) lf) w1 hdB w3 (by rw [b4]; exact hpl) (by rw [hlA]; exact g2) (by rw [b4, hlfe]; exact hnz)
        rw [b4, hlfe] at q6
        have hcc : cc = c := by rw [q6, y3]
        subst hcc
        have hchg := fun q => layA_change (place := place) (c := cc) w1 hdB (by rw [b4]; exact hpl) (by rw [b4, hlfe]; exact hnz) (by rw [b4, hlfe]; exact y3) (leafL (ownDirA A) lf) q
        rw [hlA] at q1 q2 q3 q8 q9 y2 hchg
        generalize hC0 : changeA (ownDirA A) place l = C0 at *
        cases hk : lkp l key with
        | none => rw [hk] at hvb; exact absurd hvb h1
        | some i =>
          obtain ⟨i1, i2⟩ := lkp_some hk
          have hl4 := g2.2.1
          rw [y1, gB2_s, MH_ck, gB1_s, wp_wp, q_placeIn (MR_0 y2) hF q7 (by rw [q8]; decide) q9 key, gB2_s, hk, pof_found g2.2.2 hk, ← hchg]
          obtain ⟨u1, u2, u3, u4⟩ := MR_leaf (MR_0 y2) q7 (by rw [q8]; decide) q9
          obtain ⟨P3, v1, v2, v3⟩ := q_rem247 (κ := κ) (F := F) (m := m) (V := wp V P2) (σ := σ) (r := valBy A (drD A) key) hm q7 hl4 i1 u1 u2 (l.length - 1 - i) F i P2 (by omega) (by omega) (Nat.le_refl _) (fun _ _ => rfl) (fun e he => by rw [era_getD, if_pos he]; exact u4 e (by omega)) (fun e _ he => u4 e he)
          exact ⟨P3, v1, MR_mk (MR0_lay (MR_0 y2) q7 v3 v2) (MRt_lay (MRt_of y2) rfl (fun j hj => v3 j (by omega) (by omega)))⟩
  rw [f_X6_doRemove_42, if_neg h1, MH_ck, gB1_s, q_drafts h hw.1.1 hD32, gB2_s, MH_ck, gB1_s, qpl, gB2_s, MH_ck, gB1_s, q_drafts h hw.1.1 hD32, gB2_s, MH_ck, gB1_s, qlf, gB2_s, MH_ck, gB1_s, qof, gB2_s]
  have hl4 := g2.2.1
  have step93 : ∀ l5 : Int32, (l5 = if (leafL A ((dirL A (drD A)).getD (plc A (dirL A (drD A)) key (dirL A (drD A)).length) 0)).length = 1 then 1 else 0) →
      (many A < remBeds A key → f_X6_doRemove_93 κ F (some m) key (valBy A (drD A) key) (Int32.ofNat (plc A (dirL A (drD A)) key (dirL A (drD A)).length)) (Int32.ofNat ((dirL A (drD A)).getD (plc A (dirL A (drD A)) key (dirL A (drD A)).length) 0)) l5 (MH m V σ) = some (0, MH m (wco V 2) σ)) ∧
      (¬ many A < remBeds A key → ∃ P', f_X6_doRemove_93 κ F (some m) key (valBy A (drD A) key) (Int32.ofNat (plc A (dirL A (drD A)) key (dirL A (drD A)).length)) (Int32.ofNat ((dirL A (drD A)).getD (plc A (dirL A (drD A)) key (dirL A (drD A)).length) 0)) l5 (MH m V σ) = some (valBy A (drD A) key, MH m (wp V P') σ) ∧ MR P' (remA A key)) := by
    intro l5 hl5
    have step111 : ∀ (a : Int32) (na : Nat), a = Int32.ofNat na → na = (if anyNew A then 0 else 1) →
      (many A < remBeds A key → f_X6_doRemove_111 κ F (some m) key (valBy A (drD A) key) (Int32.ofNat (plc A (dirL A (drD A)) key (dirL A (drD A)).length)) (Int32.ofNat ((dirL A (drD A)).getD (plc A (dirL A (drD A)) key (dirL A (drD A)).length) 0)) l5 a (MH m V σ) = some (0, MH m (wco V 2) σ)) ∧
      (¬ many A < remBeds A key → ∃ P', f_X6_doRemove_111 κ F (some m) key (valBy A (drD A) key) (Int32.ofNat (plc A (dirL A (drD A)) key (dirL A (drD A)).length)) (Int32.ofNat ((dirL A (drD A)).getD (plc A (dirL A (drD A)) key (dirL A (drD A)).length) 0)) l5 a (MH m V σ) = some (valBy A (drD A) key, MH m (wp V P') σ) ∧ MR P' (remA A key)) := by
      intro a na ha hna
      have hna1 : na ≤ 1 := by rw [hna]; split <;> omega
      rw [f_X6_doRemove_111]
      by_cases cl : (leafL A ((dirL A (drD A)).getD (plc A (dirL A (drD A)) key (dirL A (drD A)).length) 0)).length = 1
      · have h5 : l5 = 1 := by rw [hl5, if_pos cl]
        rw [if_neg (by rw [h5]; decide), f_X6_doRemove_127]
        exact step a 0 na 0 l5 ha rfl hna1 (by omega) (by unfold remBeds; simp only; rw [if_pos (Or.inl cl), hna]) hl5
      · have h5 : l5 = 0 := by rw [hl5, if_neg cl]
        rw [if_pos h5, MH_ck, gB1_s, qn4, gB2_s]
        by_cases cn : isNew A ((dirL A (drD A)).getD (plc A (dirL A (drD A)) key (dirL A (drD A)).length) 0) = true
        · rw [if_pos cn, if_pos rfl, f_X6_doRemove_127]
          exact step a 0 na 0 l5 ha rfl hna1 (by omega) (by unfold remBeds; simp only; rw [if_pos (Or.inr cn), hna]) hl5
        · rw [if_neg cn, if_neg (by decide)]
          exact step a 1 na 1 l5 ha rfl hna1 (by omega) (by unfold remBeds; simp only; rw [if_neg (show ¬ ((leafL A ((dirL A (drD A)).getD (plc A (dirL A (drD A)) key (dirL A (drD A)).length) 0)).length = 1 ∨ isNew A ((dirL A (drD A)).getD (plc A (dirL A (drD A)) key (dirL A (drD A)).length) 0) = true) from fun h => h.elim cl cn), hna]) hl5
    rw [f_X6_doRemove_93, MH_rvp, gB1_s, hg, gB1_s, hgg]
    by_cases ha : anyNew A = true
    · rw [if_pos ha, if_pos (Int32.not_lt.mp (i3_ok (by omega)).1)]
      exact step111 0 0 rfl (by rw [if_pos ha])
    · rw [if_neg ha, if_neg (by decide)]
      exact step111 1 1 rfl (by rw [if_neg ha])
  by_cases cl : (leafL A ((dirL A (drD A)).getD (plc A (dirL A (drD A)) key (dirL A (drD A)).length) 0)).length = 1
  · rw [if_pos (by rw [cl]; rfl)]
    exact step93 1 (by rw [if_pos cl])
  · rw [if_neg (show ¬ Int32.ofNat (leafL A ((dirL A (drD A)).getD (plc A (dirL A (drD A)) key (dirL A (drD A)).length) 0)).length = (1 : Int32) from fun e => cl ((i3_inj (b := 1) (by omega) (by omega)).mp e))]
    exact step93 0 (by rw [if_neg cl])
theorem q_doRemove {n : Nat} {A : aG} (h : MR (vp V) A) (hw : WF n A) (hm : κ.1 ≤ m) (hF : 40 ≤ F) (key : Int32) :
    (∀ c, spRem A key = .inr c → f_X6_doRemove κ F (some m) key (MH m V σ) = some (0, MH m (wco V c) σ)) ∧
    (∀ A' r, spRem A key = .inl (A', r) → WF n A' ∧ ∃ P', f_X6_doRemove κ F (some m) key (MH m V σ) = some (r, MH m (wp V P') σ) ∧ MR P' A') := by
  have hg : gaI (MH m V σ) (some (m + 1)) 0 (466 : Int32) = some (vp V 466) := MH_gvp (k := 466) rfl (by omega)
  have h6 := q_p466 h
  unfold spRem
  rw [f_X6_doRemove, f_X6_doRemove_0, q_in, gB2_s]
  cases c1 : inR key 0 99 with
  | false =>
    simp only [Bool.false_and, Bool.false_eq_true, if_false, if_true, eq_self, MH_ck, gB1_s, q_refuse hm, gB2_s]
    exact ⟨fun c e => by cases e; rfl, fun A' r e => by cases e⟩
  | true =>
    simp only [if_true, eq_self, i10, if_false, MH_rvp, gB1_s, hg, h6]
    cases c3 : isDr A with
    | false =>
      simp only [Bool.false_eq_true, if_false, if_true, eq_self, f_X6_doRemove_42, MH_ck, gB1_s, q_refuse hm, gB2_s]
      exact ⟨fun c e => by cases e; rfl, fun A' r e => by cases e⟩
    | true =>
      simp only [if_true, eq_self, i10, if_false, MH_ck, gB1_s, q_drafts h hw.1.1 (drD_lt hw), q_valueBy (MR_0 h) hF (WF_okD hw c3) key, gB2_s]
      by_cases c5 : valBy A (drD A) key = -1000
      · rw [if_pos (Or.inl c5), f_X6_doRemove_42, if_pos c5, MH_ck, gB1_s, q_refuse hm, gB2_s]
        exact ⟨fun c e => by cases e; rfl, fun A' r e => by cases e⟩
      · obtain ⟨r1, r2⟩ := q_rem42 (κ := κ) (F := F) (m := m) (V := V) (σ := σ) h hw hm hF c3 c5
        by_cases c4 : many A < remBeds A key
        · rw [if_pos (Or.inr c4), r1 c4]
          exact ⟨fun c e => by cases e; rfl, fun A' r e => by cases e⟩
        · rw [if_neg (by rintro (h | h); exact c5 h; exact c4 h)]
          refine ⟨(fun c e => by cases e), fun A' r e => ?_⟩
          cases e
          exact ⟨WF_rem hw c3 c5 c4, r2 c4⟩
end Q
