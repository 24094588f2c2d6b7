/-! the reference: commit, close -/
theorem vp_wp (V : mV) (f : mR) : vp (wp V f) = f := rfl
theorem MR_root {P P' : mR} {A : aG} {x : aRo} (h : MR P A) (ha : anyNew A = true) (hP : ∀ j, (j < 448 + 3 * (1 - cur A) ∨ 448 + 3 * (1 - cur A) + 3 ≤ j) → P' j = P j) (h0 : P' (448 + 3 * (1 - cur A) + 0) = x.1) (h1 : P' (448 + 3 * (1 - cur A) + 1) = (match x.2.1 with | none => -1 | some d => Int32.ofNat d)) (h2 : P' (448 + 3 * (1 - cur A) + 2) = (if x.2.2 then 1 else 0)) : MR P' (rootA A x) := by
  have hc := cur2 A
  obtain ⟨d, e1, b, e2, e3⟩ := any_iff.mp ha
  have ht := h.2.2.2.1
  rw [e1] at ht
  refine ⟨fun b hb => MRb_congr (h.1 b hb) (fun j _ _ => hP j (by omega)) rfl rfl rfl, fun r hr => ?_, fun k hk => ?_, ?_, ?_, ?_⟩
  · have e : aRt (rootA A x) r = if r = 1 - cur A then x else aRt A r := rfl
    by_cases c : r = 1 - cur A
    · rw [e, if_pos c, c]
      exact ⟨h0, h1, h2⟩
    · rw [e, if_neg c, hP _ (by omega), hP _ (by omega), hP _ (by omega)]
      exact h.2.1 r hr
  · rw [hP _ (by omega), hP _ (by omega), hP _ (by omega)]
    exact h.2.2.1 k hk
  · have hd : aDr (rootA A x) = some d := e1
    rw [hd]
    refine ⟨by rw [hP _ (by omega)]; exact ht.1, fun _ => by rw [hP _ (by omega)]; exact ht.2.1 ⟨b, e2, e3⟩, fun e => ?_⟩
    rw [e b e2] at e3
    cases e3
  · rw [hP _ (by omega)]; exact h.2.2.2.2.1
  · rw [hP _ (by omega)]; exact h.2.2.2.2.2
theorem MR_lost {P : mR} {A : aG} (h : MR P A) : MR (va_up P 469 (P 469 + 1)) (lostA A) := by
  have hP : ∀ j, j ≠ 469 → va_up P 469 (P 469 + 1) j = P j := fun j hj => vup_ne hj
  refine ⟨fun b hb => MRb_congr (h.1 b hb) (fun j _ _ => hP j (by omega)) rfl rfl rfl, fun r hr => ?_, fun k hk => ?_, ?_, ?_, ?_⟩
  · rw [hP _ (by omega), hP _ (by omega), hP _ (by omega)]; exact h.2.1 r hr
  · rw [hP _ (by omega), hP _ (by omega), hP _ (by omega)]; exact h.2.2.1 k hk
  · rw [hP _ (by omega), hP _ (by omega)]; exact h.2.2.2.1
  · rw [hP _ (by omega)]; exact h.2.2.2.2.1
  · rw [vup_at, h.2.2.2.2.2]; rfl
theorem MR_com {P : mR} {A : aG} (h : MR P A) : MR (va_up P 468 (P 468 + 1)) (comA A) := by
  have hP : ∀ j, j ≠ 468 → va_up P 468 (P 468 + 1) j = P j := fun j hj => vup_ne hj
  refine ⟨fun b hb => MRb_congr (h.1 b hb) (fun j _ _ => hP j (by omega)) rfl rfl rfl, fun r hr => ?_, fun k hk => ?_, ?_, ?_, ?_⟩
  · rw [hP _ (by omega), hP _ (by omega), hP _ (by omega)]; exact h.2.1 r hr
  · rw [hP _ (by omega), hP _ (by omega), hP _ (by omega)]; exact h.2.2.1 k hk
  · rw [hP _ (by omega), hP _ (by omega)]; exact h.2.2.2.1
  · rw [vup_at, h.2.2.2.2.1]; rfl
  · rw [hP _ (by omega)]; exact h.2.2.2.2.2
section Q
variable {κ : gK} {F : Nat} {m : Nat} {V : mV} {σ : gS}
theorem q_com153 {n : Nat} {A : aG} {P : mR} (h : MR (vp V) A) (hw : WF n A) (hm : κ.1 ≤ m) (hF : 40 ≤ F) (ha : anyNew A = true) {s as : Nat} (hs : s ≤ 3) (has : as = 448 + 3 * (1 - cur A)) {x : Int32}
    (hP : ∀ j, (j < as ∨ as + 3 ≤ j) → P j = vp V j) (h0 : P (as + 0) = (rootN A s).1) (hx : x = (match (rootN A s).2.1 with | none => -1 | some d => Int32.ofNat d)) (h2 : s < 3 → P (as + 2) = (if (rootN A s).2.2 then 1 else 0)) :
    ∃ P', f_X6_doCommit_153 κ F (some m) (Int32.ofNat s) (nowC A + 1) (Int32.ofNat as) (some (m + 1)) (Int32.ofNat as + (1 : Int32)) x (MH m (wp V P) σ) = some ((commitA A s).2, MH m (wp V P') σ) ∧ MR P' (commitA A s).1 := by
  have hc := cur2 A
  subst has
  have s1 : gsI κ (MH m (wp V P) σ) (some (m + 1)) (Int32.ofNat (448 + 3 * (1 - cur A)) + (1 : Int32)) x = some (MH m (wp V (va_up P (448 + 3 * (1 - cur A) + 1) x)) σ) := MH_svp (V := wp V P) hm (i3_s _) (by omega) x
  rw [f_X6_doCommit_153, s1, gB1_s]
  unfold commitA
  rw [if_pos ha]
  by_cases h3 : s = 3
  · subst h3
    have s2 : gsI κ (MH m (wp V (va_up P (448 + 3 * (1 - cur A) + 1) x)) σ) (some (m + 1)) (Int32.ofNat (448 + 3 * (1 - cur A)) + (2 : Int32)) (1 : Int32) = some (MH m (wp V (va_up (va_up P (448 + 3 * (1 - cur A) + 1) x) (448 + 3 * (1 - cur A) + 2) 1)) σ) := MH_svp (V := wp V (va_up P (448 + 3 * (1 - cur A) + 1) x)) hm (i3_add _ 2) (by omega) _
    have M1 : MR (va_up (va_up P (448 + 3 * (1 - cur A) + 1) x) (448 + 3 * (1 - cur A) + 2) 1) (rootA A (rootN A 3)) := by
      refine MR_root h ha (fun j hj => by rw [vup_ne (by omega), vup_ne (by omega), hP j hj]) (by rw [vup_ne (by omega), vup_ne (by omega)]; exact h0) (by rw [vup_ne (by omega), vup_at]; exact hx) ?_
      rw [vup_at]
      rfl
    generalize hP5 : va_up (va_up P (448 + 3 * (1 - cur A) + 1) x) (448 + 3 * (1 - cur A) + 2) 1 = P5 at s2 M1
    have g468 : gaI (MH m (wp V P5) σ) (some (m + 1)) 0 (468 : Int32) = some (P5 468) := MH_gvp (V := wp V P5) (k := 468) rfl (by omega)
    have s3 : gsI κ (MH m (wp V P5) σ) (some (m + 1)) (468 : Int32) (P5 468 + 1) = some (MH m (wp V (va_up P5 468 (P5 468 + 1))) σ) := MH_svp (V := wp V P5) hm (k := 468) rfl (by omega) _
    have M2 := MR_com M1
    have hL : ∀ b, b < 32 → isLeft (comA (rootA A (rootN A 3))) b = true → aSt (comA (rootA A (rootN A 3))) b ≠ 0 := fun b hb hl => by
      have hl : isLeft A b = true := hl
      unfold isLeft at hl
      cases hd : aDr A with
      | none => rw [hd] at hl; cases hl
      | some d =>
        rw [hd] at hl
        have := (hw.2 d hd).2.2.2.2.2 b hb hl
        show aSt A b ≠ 0
        rw [this]
        decide
    obtain ⟨P6, f1, f2⟩ := q_frees (κ := κ) (F := F) (m := m) (V := wp V (va_up P5 468 (P5 468 + 1))) (σ := σ) (c := nowC A + 1) hm hF M2 hL
    refine ⟨P6, ?_, f2⟩
    rw [if_pos (by decide), MH_rvp, gB1_s, s2, gB1_s, MH_rvp, gB1_s, g468, gB1_s, s3, gB1_s, MH_ck, gB1_s, f1, gB2_s]
    rfl
  · rw [if_neg h3, if_neg (show ¬ (3 : Int32) ≤ Int32.ofNat s from by rw [L3, i3_le (by omega) (by omega)]; omega)]
    have M1 : MR (va_up P (448 + 3 * (1 - cur A) + 1) x) (rootA A (rootN A s)) := by
      refine MR_root h ha (fun j hj => by rw [vup_ne (by omega), hP j hj]) (by rw [vup_ne (by omega)]; exact h0) (by rw [vup_at]; exact hx) ?_
      rw [vup_ne (by omega)]
      exact h2 (by omega)
    obtain ⟨P6, f1, f2⟩ := q_drops (κ := κ) (F := F) (m := m) (V := wp V (va_up P (448 + 3 * (1 - cur A) + 1) x)) (σ := σ) hm hF M1
    have g469 : gaI (MH m (wp V P6) σ) (some (m + 1)) 0 (469 : Int32) = some (P6 469) := MH_gvp (V := wp V P6) (k := 469) rfl (by omega)
    have s3 : gsI κ (MH m (wp V P6) σ) (some (m + 1)) (469 : Int32) (P6 469 + 1) = some (MH m (wp V (va_up P6 469 (P6 469 + 1))) σ) := MH_svp (V := wp V P6) hm (k := 469) rfl (by omega) _
    refine ⟨va_up P6 469 (P6 469 + 1), ?_, MR_lost f2⟩
    rw [MH_ck, gB1_s, f1, gB2_s, wp_wp, MH_rvp, gB1_s, g469, gB1_s, s3, gB1_s]
theorem q_doCommit {n : Nat} {A : aG} (h : MR (vp V) A) (hw : WF n A) (hm : κ.1 ≤ m) (hF : 40 ≤ F) (hn : n < 1000000) (steps : Int32) :
    (∀ c, spCommit A steps = .inr c → f_X6_doCommit κ F (some m) steps (MH m V σ) = some (0, MH m (wco V c) σ)) ∧
    (∀ A' r, spCommit A steps = .inl (A', r) → WF (n + 1) A' ∧ ∃ P', f_X6_doCommit κ F (some m) steps (MH m V σ) = some (r, MH m (wp V P') σ) ∧ MR P' A') := by
  have hg : gaI (MH m V σ) (some (m + 1)) 0 (466 : Int32) = some (vp V 466) := MH_gvp (k := 466) rfl (by omega)
  have hg7 : gaI (MH m V σ) (some (m + 1)) 0 (467 : Int32) = some (vp V 467) := MH_gvp (k := 467) rfl (by omega)
  have h6 := q_p466 h
  have h7 := q_first h
  have hD32 := drD_lt hw
  have hc := cur2 A
  unfold spCommit
  rw [f_X6_doCommit, f_X6_doCommit_0, q_in, gB2_s]
  cases c1 : inR steps 0 3 with
  | false =>
    simp only [Bool.false_and, Bool.false_eq_true, if_false, if_true, eq_self, MH_ck, gB1_s, q_refuse hm, gB2_s]
    exact ⟨fun c e => by cases e; rfl, fun A' r e => by cases e⟩
  | true =>
    obtain ⟨s, hs, rfl⟩ := inR_nat (b := 3) (by omega) c1
    simp only [if_true, eq_self, i10, if_false, MH_rvp, gB1_s, hg, h6, (i3_ok (k := s) (by omega)).2]
    cases c3 : isDr A with
    | false =>
      simp only [Bool.false_eq_true, if_false, if_true, eq_self, MH_ck, gB1_s, q_refuse hm, gB2_s]
      exact ⟨fun c e => by cases e; rfl, fun A' r e => by cases e⟩
    | true =>
      simp only [if_true, eq_self, i10, if_false, gB1_s, hg7, h7]
      refine ⟨(fun c e => by cases e), fun A' r e => ?_⟩
      have e := Sum.inl.inj e
      have e1 : (commitA A s).1 = A' := congrArg Prod.fst e
      have e2 : (commitA A s).2 = r := congrArg Prod.snd e
      subst e1; subst e2
      refine ⟨WF_commit hw c3 hs hn, ?_⟩
      by_cases ha : anyNew A = true
      · rw [if_pos ha, if_pos (Int32.not_lt.mp (i3_ok (by omega)).1), MH_ck, gB1_s, q_current (MR_0 h), gB2_s, MH_ck, gB1_s, q_ofRoot0 hc, gB2_s, MH_ck, gB1_s, q_current (MR_0 h), gB2_s, MH_rvp, gB1_s]
        have hroot := h.2.1 (cur A) hc
        have hra := h.2.1 (1 - cur A) (by omega)
        have has : (448 : Int32) + ((3 : Int32) * ((1 : Int32) - Int32.ofNat (cur A))) = Int32.ofNat (448 + 3 * (1 - cur A)) := by
          rw [show (1 : Int32) - Int32.ofNat (cur A) = Int32.ofNat (1 - cur A) from i3_sub (a := 1) (by omega), L3, L448, i3_mul, i3_add]
        have hnow : vp V (448 + 3 * cur A + 0) = nowC A := hroot.1
        rw [has, hnow]
        have st : ∀ (W : mV) (k : Nat), k < 3 → ∀ (z : Int32), z = Int32.ofNat (448 + 3 * (1 - cur A)) + Int32.ofNat k → ∀ y, gsI κ (MH m W σ) (some (m + 1)) z y = some (MH m (wp W (va_up (vp W) (448 + 3 * (1 - cur A) + k) y)) σ) := fun W k hk z hz y => MH_svp hm (by rw [hz, i3_add]) (by omega) y
        have ld : ∀ (W : mV) (k : Nat), k < 3 → ∀ (z : Int32), z = Int32.ofNat (448 + 3 * (1 - cur A)) + Int32.ofNat k → gaI (MH m W σ) (some (m + 1)) 0 z = some (vp W (448 + 3 * (1 - cur A) + k)) := fun W k hk z hz => MH_gvp (by rw [hz, i3_add]) (by omega)
        -- behind the write of whole
        have st96 : ∀ w : Int32, (s < 3 → w = (if (rootN A s).2.2 then 1 else 0)) → ∃ P', f_X6_doCommit_96 κ F (some m) (Int32.ofNat s) (nowC A + 1) (Int32.ofNat (448 + 3 * (1 - cur A))) (some (m + 1)) (Int32.ofNat (448 + 3 * (1 - cur A)) + (2 : Int32)) w (MH m V σ) = some ((commitA A s).2, MH m (wp V P') σ) ∧ MR P' (commitA A s).1 := by
          intro w hwv
          rw [f_X6_doCommit_96, st V 2 (by omega) (Int32.ofNat (448 + 3 * (1 - cur A)) + (2 : Int32)) rfl, gB1_s, MH_rvp, gB1_s]
          have h121 : ∀ y : Int32, y = (rootN A s).1 → ∃ P', f_X6_doCommit_121 κ F (some m) (Int32.ofNat s) (nowC A + 1) (Int32.ofNat (448 + 3 * (1 - cur A))) (some (m + 1)) (Int32.ofNat (448 + 3 * (1 - cur A)) + (0 : Int32)) y (MH m (wp V (va_up (vp V) (448 + 3 * (1 - cur A) + 2) w)) σ) = some ((commitA A s).2, MH m (wp V P') σ) ∧ MR P' (commitA A s).1 := by
            intro y hy
            rw [f_X6_doCommit_121, st (wp V (va_up (vp V) (448 + 3 * (1 - cur A) + 2) w)) 0 (by omega) (Int32.ofNat (448 + 3 * (1 - cur A)) + (0 : Int32)) rfl, gB1_s, MH_rvp, gB1_s, wp_wp, vp_wp]
            have e467 : vp (wp V (va_up (va_up (vp V) (448 + 3 * (1 - cur A) + 2) w) (448 + 3 * (1 - cur A) + 0) y)) 467 = Int32.ofNat (drD A) := by
              show va_up (va_up (vp V) (448 + 3 * (1 - cur A) + 2) w) (448 + 3 * (1 - cur A) + 0) y 467 = _
              rw [vup_ne (by omega), vup_ne (by omega), h7, if_pos ha]
            have ea1 : vp (wp V (va_up (va_up (vp V) (448 + 3 * (1 - cur A) + 2) w) (448 + 3 * (1 - cur A) + 0) y)) (448 + 3 * (1 - cur A) + 1) = (match (aRt A (1 - cur A)).2.1 with | none => -1 | some d => Int32.ofNat d) := by
              show va_up (va_up (vp V) (448 + 3 * (1 - cur A) + 2) w) (448 + 3 * (1 - cur A) + 0) y _ = _
              rw [vup_ne (by omega), vup_ne (by omega)]
              exact hra.2.1
            have fin := q_com153 (κ := κ) (F := F) (m := m) (V := V) (σ := σ) (P := va_up (va_up (vp V) (448 + 3 * (1 - cur A) + 2) w) (448 + 3 * (1 - cur A) + 0) y) (s := s) h hw hm hF ha hs rfl (x := (match (rootN A s).2.1 with | none => -1 | some d => Int32.ofNat d)) (fun j hj => by rw [vup_ne (by omega), vup_ne (by omega)]) (by rw [vup_at]; exact hy) rfl (fun h3 => by rw [vup_ne (by omega), vup_at]; exact hwv h3)
            by_cases h2 : 2 ≤ s
            · have hr2 : (rootN A s).2.1 = some (drD A) := by unfold rootN; simp only; rw [if_pos h2]
              rw [hr2] at fin
              rw [if_pos (show (2 : Int32) ≤ Int32.ofNat s from by rw [L2, i3_le (by omega) (by omega)]; exact h2), gB1_s, q_g467 (k := drD A) e467, gB1_s]
              exact fin
            · have hr2 : (rootN A s).2.1 = (aRt A (1 - cur A)).2.1 := by unfold rootN; simp only; rw [if_neg h2]
              rw [hr2] at fin
              rw [if_neg (show ¬ (2 : Int32) ≤ Int32.ofNat s from by rw [L2, i3_le (by omega) (by omega)]; exact h2), gB1_s, ld _ 1 (by omega) (Int32.ofNat (448 + 3 * (1 - cur A)) + (1 : Int32)) rfl, gB1_s, ea1]
              exact fin
          by_cases h2 : 2 ≤ s
          · rw [if_pos (show (2 : Int32) ≤ Int32.ofNat s from by rw [L2, i3_le (by omega) (by omega)]; exact h2)]
            exact h121 _ (by unfold rootN; simp only; rw [if_pos h2])
          · rw [if_neg (show ¬ (2 : Int32) ≤ Int32.ofNat s from by rw [L2, i3_le (by omega) (by omega)]; exact h2), gB1_s, ld _ 0 (by omega) (Int32.ofNat (448 + 3 * (1 - cur A)) + (0 : Int32)) rfl, gB1_s]
            refine h121 _ ?_
            show va_up (vp V) (448 + 3 * (1 - cur A) + 2) w (448 + 3 * (1 - cur A) + 0) = _
            rw [vup_ne (by omega)]
            unfold rootN
            simp only
            rw [if_neg h2]
            exact hra.1
        by_cases h0 : s = 0
        · rw [if_pos (show Int32.ofNat s = (0 : Int32) from by rw [h0]; rfl), gB1_s, ld V 2 (by omega) (Int32.ofNat (448 + 3 * (1 - cur A)) + (2 : Int32)) rfl, gB1_s]
          refine st96 _ (fun _ => ?_)
          have hw3 : (rootN A s).2.2 = (aRt A (1 - cur A)).2.2 := by
            unfold rootN
            simp only
            rw [if_pos h0]
          rw [hra.2.2, hw3]
        · rw [if_neg (show ¬ Int32.ofNat s = (0 : Int32) from fun e => h0 ((i3_inj (b := 0) (by omega) (by omega)).mp e))]
          refine st96 _ (fun h3 => ?_)
          have hw3 : (rootN A s).2.2 = decide (s = 3) := by
            unfold rootN
            simp only
            rw [if_neg h0]
          rw [hw3, decide_eq_false (show ¬ s = 3 by omega)]
          rfl
      · rw [if_neg ha, if_neg (by decide), MH_ck, gB1_s]
        obtain ⟨P6, f1, f2⟩ := q_drops (κ := κ) (F := F) (m := m) (V := V) (σ := σ) hm hF h
        unfold commitA
        rw [if_neg ha, f1, gB2_s]
        have h0 : cnt (isNew A) 32 = 0 := by
          rcases Nat.eq_zero_or_pos (cnt (isNew A) 32) with e | e
          · exact e
          · obtain ⟨b, hb, hx⟩ := cnt_pos e
            obtain ⟨d, hd⟩ := isDr_d c3
            rw [isNew_d hd] at hx
            exact absurd (any_of hd hb hx) ha
        rw [h0]
        exact ⟨P6, rfl, f2⟩
theorem q_close37 {r had : Int32} {k0 : Nat} (hm : κ.1 ≤ m) (hr : r = Int32.ofNat k0) (hk0 : k0 < 4) : ∀ (d fuel k : Nat) (P : mR), k + d = 3 → d < fuel → (∀ j, (j < 454 + 3 * k0 ∨ 454 + 3 * k0 + 3 ≤ j) → P j = vp V j) → (∀ j, j < k → P (454 + 3 * k0 + j) = 0) →
    ∃ P', f_X6_doClose_37 κ F fuel (some m) r had (Int32.ofNat k) (MH m (wp V P) σ) = gB2 (f_X6_freedToDig κ F (some m) (MH m (wp V P') σ)) (fun v2 s1 => some ((v2 - had), s1)) ∧ (∀ j, (j < 454 + 3 * k0 ∨ 454 + 3 * k0 + 3 ≤ j) → P' j = vp V j) ∧ (∀ j, j < 3 → P' (454 + 3 * k0 + j) = 0)
  | 0, fuel, k, P, hk, hf, h1, h2 => by
    obtain ⟨f, rfl⟩ : ∃ f, fuel = f + 1 := ⟨fuel - 1, by omega⟩
    have hk : k = 3 := by omega
    subst hk
    refine ⟨P, ?_, h1, h2⟩
    rw [f_X6_doClose_37, f_X6_doClose_37b, if_pos (by decide), MH_ck, gB1_s]
  | d + 1, fuel, k, P, hk, hf, h1, h2 => by
    obtain ⟨f, rfl⟩ : ∃ f, fuel = f + 1 := ⟨fuel - 1, by omega⟩
    have c3 : ¬ ((3 : Int32) ≤ Int32.ofNat k) := by rw [L3, i3_le (by omega) (by omega)]; omega
    have s1 : gsI κ (MH m (wp V P) σ) (some (m + 1)) (((454 : Int32) + ((3 : Int32) * r)) + Int32.ofNat k) (0 : Int32) = some (MH m (wp V (va_up P (454 + 3 * k0 + k) 0)) σ) := MH_svp (V := wp V P) hm (by rw [hr, L3, L454, i3_mul, i3_add, i3_add]) (by omega) _
    rw [f_X6_doClose_37, f_X6_doClose_37b, if_neg c3, MH_rvp, gB1_s, s1, gB1_s, i3_s]
    refine q_close37 hm hr hk0 d f (k + 1) _ (by omega) (by omega) (fun j hj => by rw [vup_ne (by omega)]; exact h1 j hj) (fun j hj => ?_)
    by_cases e : j = k
    · rw [e]; exact vup_at _ _ _
    · rw [vup_ne (by omega)]; exact h2 j (by omega)
theorem q_doClose {n : Nat} {A : aG} (h : MR (vp V) A) (hw : WF n A) (hm : κ.1 ≤ m) (hF : 40 ≤ F) (r : Int32) :
    (∀ c, spClose A r = .inr c → f_X6_doClose κ F (some m) r (MH m V σ) = some (0, MH m (wco V c) σ)) ∧
    (∀ A' x, spClose A r = .inl (A', x) → WF n A' ∧ ∃ P', f_X6_doClose κ F (some m) r (MH m V σ) = some (x, MH m (wp V P') σ) ∧ MR P' A') := by
  unfold spClose
  rw [f_X6_doClose, f_X6_doClose_0, q_in, gB2_s]
  cases c1 : inR r 0 3 with
  | false =>
    simp only [Bool.false_eq_true, if_false, if_true, eq_self, MH_ck, gB1_s, q_refuse hm, gB2_s]
    exact ⟨fun c e => by cases e; rfl, fun A' r e => by cases e⟩
  | true =>
    obtain ⟨k, hk, rfl⟩ := inR_nat (b := 3) (by omega) c1
    simp only [if_true, eq_self, i10, if_false, MH_ck, gB1_s, (i3_ok (k := k) (by omega)).2, q_ofReader0 (show k < 4 by omega), gB2_s]
    have hr := h.2.2.1 k (by omega)
    cases hd : aRd A k with
    | none =>
      rw [hd] at hr
      have hr : vp V (454 + 3 * k + 0) = 0 := hr
      rw [hr]
      simp only [Option.isSome_none, Bool.false_eq_true, if_false, if_true, eq_self, q_refuse hm, gB2_s]
      exact ⟨fun c e => by cases e; rfl, fun A' r e => by cases e⟩
    | some q =>
      rw [hd] at hr
      have hr := hr.1
      rw [hr]
      simp only [Option.isSome_some, i10, if_false, if_true, q_freed (MR_0 h) hF, gB2_s]
      refine ⟨(fun c e => by cases e), fun A' x e => ?_⟩
      cases e
      refine ⟨WF_close hw k, ?_⟩
      obtain ⟨P', c1, c2, c3⟩ := q_close37 (κ := κ) (F := F) (m := m) (V := V) (σ := σ) (had := Int32.ofNat (cnt (digg A) 32)) hm (r := Int32.ofNat k) rfl (show k < 4 by omega) 3 F 0 (vp V) (by omega) (by omega) (fun _ _ => rfl) (fun j hj => absurd hj (Nat.not_lt_zero _))
      have M : MR P' (closeA A k) := by
        refine ⟨fun b hb => MRb_congr (h.1 b hb) (fun j _ _ => c2 j (by omega)) rfl rfl rfl, fun r hr => ?_, fun i hi => ?_, ?_, ?_, ?_⟩
        · rw [c2 _ (by omega), c2 _ (by omega), c2 _ (by omega)]; exact h.2.1 r hr
        · by_cases e : i = k
          · subst e
            have : aRd (closeA A i) i = none := vup_at _ _ _
            rw [this]
            exact c3 0 (by omega)
          · have : aRd (closeA A k) i = aRd A i := vup_ne e
            rw [this, c2 _ (by omega), c2 _ (by omega), c2 _ (by omega)]
            exact h.2.2.1 i hi
        · rw [c2 _ (by omega), c2 _ (by omega)]; exact h.2.2.2.1
        · rw [c2 _ (by omega)]; exact h.2.2.2.2.1
        · rw [c2 _ (by omega)]; exact h.2.2.2.2.2
      refine ⟨P', ?_, M⟩
      refine c1.trans ?_
      rw [q_freed (V := wp V P') (MR_0 M) hF, gB2_s]
end Q
