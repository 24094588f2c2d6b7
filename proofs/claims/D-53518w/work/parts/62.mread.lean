/-! the reference's methods that read -/
theorem L2 : (2 : Int32) = Int32.ofNat 2 := rfl
theorem L3 : (3 : Int32) = Int32.ofNat 3 := rfl
theorem L4 : (4 : Int32) = Int32.ofNat 4 := rfl
theorem L5 : (5 : Int32) = Int32.ofNat 5 := rfl
theorem L6 : (6 : Int32) = Int32.ofNat 6 := rfl
theorem L14 : (14 : Int32) = Int32.ofNat 14 := rfl
theorem L448 : (448 : Int32) = Int32.ofNat 448 := rfl
theorem L454 : (454 : Int32) = Int32.ofNat 454 := rfl
theorem i3_s (k : Nat) : Int32.ofNat k + (1 : Int32) = Int32.ofNat (k + 1) := i3_add k 1
theorem i3_0 (k : Nat) : Int32.ofNat k + (0 : Int32) = Int32.ofNat (k + 0) := i3_add k 0
section Q
variable {κ : gK} {F : Nat} {m : Nat} {V : mV} {σ : gS}
theorem q_of {b w : Nat} (h : 14 * b + w < 470) : f_X6_of κ F (some m) (Int32.ofNat b) (Int32.ofNat w) (MH m V σ) = some (vp V (14 * b + w), MH m V σ) := by
  have hx : ((0 : Int32) + ((14 : Int32) * Int32.ofNat b)) + Int32.ofNat w = Int32.ofNat (14 * b + w) := by
    rw [Int32.zero_add, L14, i3_mul, i3_add]
  rw [f_X6_of, f_X6_of_0, MH_rvp, gB1_s, MH_gvp hx h, gB1_s]
theorem q_of0 {b : Nat} (h : b < 32) : f_X6_of κ F (some m) (Int32.ofNat b) (0 : Int32) (MH m V σ) = some (vp V (14 * b), MH m V σ) := q_of (w := 0) (by omega)
theorem q_of1 {b : Nat} (h : b < 32) : f_X6_of κ F (some m) (Int32.ofNat b) (1 : Int32) (MH m V σ) = some (vp V (14 * b + 1), MH m V σ) := q_of (w := 1) (by omega)
theorem q_leafAt {b w : Nat} (h : 14 * b + (6 + w) < 470) : f_X6_leafAt κ F (some m) (Int32.ofNat b) (Int32.ofNat w) (MH m V σ) = some (vp V (14 * b + (6 + w)), MH m V σ) := by
  simp (disch := omega) only [f_X6_leafAt, f_X6_leafAt_0, MH_ck, gB1_s, i3_add, L6, q_of, gB2_s]
theorem q_keyAt {b w : Nat} (h : 14 * b + (6 + 2 * w) < 470) : f_X6_keyAt κ F (some m) (Int32.ofNat b) (Int32.ofNat w) (MH m V σ) = some (vp V (14 * b + (6 + 2 * w)), MH m V σ) := by
  simp (disch := omega) only [f_X6_keyAt, f_X6_keyAt_0, MH_ck, gB1_s, i3_add, i3_mul, L2, L6, q_of, gB2_s]
theorem q_valueAt {b w : Nat} (h : 14 * b + (6 + 2 * w + 1) < 470) : f_X6_valueAt κ F (some m) (Int32.ofNat b) (Int32.ofNat w) (MH m V σ) = some (vp V (14 * b + (6 + 2 * w + 1)), MH m V σ) := by
  simp (disch := omega) only [f_X6_valueAt, f_X6_valueAt_0, MH_ck, gB1_s, i3_add, i3_s, i3_mul, L2, L6, q_of, gB2_s]
theorem q_ofRoot {r w : Nat} (h : 448 + 3 * r + w < 470) : f_X6_ofRoot κ F (some m) (Int32.ofNat r) (Int32.ofNat w) (MH m V σ) = some (vp V (448 + 3 * r + w), MH m V σ) := by
  have hx : (((448 : Int32) + ((3 : Int32) * Int32.ofNat r)) + Int32.ofNat w) = Int32.ofNat (448 + 3 * r + w) := by
    rw [L3, L448, i3_mul, i3_add, i3_add]
  rw [f_X6_ofRoot, f_X6_ofRoot_0, MH_rvp, gB1_s, MH_gvp hx h, gB1_s]
theorem q_ofRoot0 {r : Nat} (h : r < 2) : f_X6_ofRoot κ F (some m) (Int32.ofNat r) (0 : Int32) (MH m V σ) = some (vp V (448 + 3 * r + 0), MH m V σ) := q_ofRoot (w := 0) (by omega)
theorem q_ofRoot1 {r : Nat} (h : r < 2) : f_X6_ofRoot κ F (some m) (Int32.ofNat r) (1 : Int32) (MH m V σ) = some (vp V (448 + 3 * r + 1), MH m V σ) := q_ofRoot (w := 1) (by omega)
theorem q_ofReader {r w : Nat} (h : 454 + 3 * r + w < 470) : f_X6_ofReader κ F (some m) (Int32.ofNat r) (Int32.ofNat w) (MH m V σ) = some (vp V (454 + 3 * r + w), MH m V σ) := by
  have hx : (((454 : Int32) + ((3 : Int32) * Int32.ofNat r)) + Int32.ofNat w) = Int32.ofNat (454 + 3 * r + w) := by
    rw [L3, L454, i3_mul, i3_add, i3_add]
  rw [f_X6_ofReader, f_X6_ofReader_0, MH_rvp, gB1_s, MH_gvp hx h, gB1_s]
theorem q_ofReader0 {r : Nat} (h : r < 4) : f_X6_ofReader κ F (some m) (Int32.ofNat r) (0 : Int32) (MH m V σ) = some (vp V (454 + 3 * r + 0), MH m V σ) := q_ofReader (w := 0) (by omega)
theorem q_ofReader1 {r : Nat} (h : r < 4) : f_X6_ofReader κ F (some m) (Int32.ofNat r) (1 : Int32) (MH m V σ) = some (vp V (454 + 3 * r + 1), MH m V σ) := q_ofReader (w := 1) (by omega)
theorem ite1 {p : Prop} [Decidable p] : ((if p then (1 : Int32) else 0) = 1) = p := by
  by_cases h : p <;> simp [h]
theorem ite0 {p : Prop} [Decidable p] : ((if p then (1 : Int32) else 0) = 0) = ¬ p := by
  by_cases h : p <;> simp [h]
theorem cur2 (A : aG) : cur A < 2 := by
  unfold cur
  split <;> omega
/-- roots alone -/
theorem q_currentR {A : aG} (h : MRr (vp V) A) : f_X6_current κ F (some m) (MH m V σ) = some (Int32.ofNat (cur A), MH m V σ) := by
  have h0 := h 0 (by omega)
  have h1 := h 1 (by omega)
  have e0 : vp V 448 = (aRt A 0).1 := h0.1
  have e1 : vp V 450 = (if (aRt A 0).2.2 then 1 else 0) := h0.2.2
  have e2 : vp V 451 = (aRt A 1).1 := h1.1
  have e3 : vp V 453 = (if (aRt A 1).2.2 then 1 else 0) := h1.2.2
  simp (disch := omega) only [f_X6_current, f_X6_current_0, f_X6_current_42, f_X6_current_46, f_X6_current_47, f_X6_current_57, MH_rvp, gB1_s, MH_gvp (show (453 : Int32) = Int32.ofNat 453 from rfl), MH_gvp (show (450 : Int32) = Int32.ofNat 450 from rfl), MH_gvp (show (451 : Int32) = Int32.ofNat 451 from rfl), MH_gvp (show (448 : Int32) = Int32.ofNat 448 from rfl), e0, e1, e2, e3, ite1, ite0, show ((1 : Int32) = 0) = False from by decide, if_false, if_true]
  unfold cur
  by_cases c1 : (aRt A 1).2.2 = true
  · rw [if_pos c1]
    by_cases c2 : (aRt A 0).2.2 = true
    · rw [if_neg (not_not_intro c2)]
      by_cases c3 : (aRt A 1).1 ≤ (aRt A 0).1
      · rw [if_pos c3, if_neg (fun e => by rcases e.2 with e2 | e2; rw [c2] at e2; cases e2; exact absurd c3 (Int32.not_le.mpr e2))]; rfl
      · rw [if_neg c3, if_pos ⟨c1, Or.inr (Int32.not_le.mp c3)⟩]; rfl
    · rw [if_pos c2, if_pos ⟨c1, Or.inl (by simpa using c2)⟩]; rfl
  · rw [if_neg c1, if_neg (fun e => c1 e.1)]; rfl
theorem q_current {A : aG} (h : MR0 (vp V) A) : f_X6_current κ F (some m) (MH m V σ) = some (Int32.ofNat (cur A), MH m V σ) := q_currentR h.2.1
theorem q_need68b {A : aG} (h : MR0 (vp V) A) {w l : Int32} {k : Nat} (hk : k < 4) (kk : Option Nat → Int32 → Int32 → Int32 → gS → Option (Int32 × gS)) : f_X6_needed_68b κ F kk (some m) w l (Int32.ofNat k) (MH m V σ) = kk (some m) w (stR A w k l) (Int32.ofNat (k + 1)) (MH m V σ) := by
  have hr := h.2.2.1 k hk
  have c4 : ¬ ((4 : Int32) ≤ Int32.ofNat k) := by rw [L4, i3_le (by omega) (by omega)]; omega
  simp only [f_X6_needed_68b, f_X6_needed_102, f_X6_needed_103, f_X6_needed_120, if_neg c4, MH_ck, gB1_s, q_ofReader0 hk, q_ofReader1 hk, gB2_s, i3_s, show ((1 : Int32) = 0) = False from by decide, if_false, if_true]
  cases hd : aRd A k with
  | none =>
    rw [hd] at hr
    have hr : vp V (454 + 3 * k + 0) = 0 := hr
    simp only [hr, show ((0 : Int32) = 1) = False from by decide, if_false, ite_self, stR, hd]
  | some q =>
    rw [hd] at hr
    obtain ⟨r1, r2, r3⟩ := hr
    simp only [stR, hd]
    rw [r1, if_pos rfl, r2]
    by_cases hw : Int32.ofNat k = w
    · rw [if_pos hw, if_pos hw]
    · rw [if_neg hw, if_neg hw]
      unfold mn
      by_cases hl : l ≤ q.1
      · rw [if_pos hl, if_neg (Int32.not_lt.mpr hl)]
      · rw [if_neg hl, if_pos (Int32.not_le.mp hl)]
theorem q_need12b {A : aG} (h : MR0 (vp V) A) {w l : Int32} {k : Nat} (hk : k < 2) (kk : Option Nat → Int32 → Int32 → Int32 → gS → Option (Int32 × gS)) : f_X6_needed_12b κ F kk (some m) w l (Int32.ofNat k) (MH m V σ) = kk (some m) w (stW A k l) (Int32.ofNat (k + 1)) (MH m V σ) := by
  obtain ⟨r1, r2, r3⟩ := h.2.1 k hk
  have c4 : ¬ ((2 : Int32) ≤ Int32.ofNat k) := by rw [L2, i3_le (by omega) (by omega)]; omega
  have hq2 : f_X6_ofRoot κ F (some m) (Int32.ofNat k) (2 : Int32) (MH m V σ) = some (vp V (448 + 3 * k + 2), MH m V σ) := q_ofRoot (w := 2) (by omega)
  simp only [f_X6_needed_12b, f_X6_needed_41, f_X6_needed_42, f_X6_needed_59, if_neg c4, MH_ck, gB1_s, q_ofRoot0 hk, hq2, gB2_s, i3_s, show ((1 : Int32) = 0) = False from by decide, if_false, if_true, r1, r3, ite1]
  unfold stW
  by_cases hw : (aRt A k).2.2 = true
  · rw [if_pos hw, if_pos hw]
    unfold mn
    by_cases hl : l ≤ (aRt A k).1
    · rw [if_pos hl, if_neg (Int32.not_lt.mpr hl)]
    · rw [if_neg hl, if_pos (Int32.not_le.mp hl)]
  · rw [if_neg hw, if_neg hw]
theorem q_needed {A : aG} (h : MR0 (vp V) A) (hF : 8 ≤ F) (w : Int32) : f_X6_needed κ F (some m) w (MH m V σ) = some (need A w, MH m V σ) := by
  obtain ⟨f, rfl⟩ : ∃ f, F = f + 8 := ⟨F - 8, by omega⟩
  rw [f_X6_needed, f_X6_needed_0, MH_ck, gB1_s, q_current h, gB2_s, MH_ck, gB1_s, q_ofRoot0 (cur2 A), gB2_s, (h.2.1 _ (cur2 A)).1]
  rw [show (0 : Int32) = Int32.ofNat 0 from rfl, f_X6_needed_12, q_need12b h (by omega), f_X6_needed_12, q_need12b h (by omega), f_X6_needed_12, f_X6_needed_12b, if_pos (by decide)]
  rw [show (0 : Int32) = Int32.ofNat 0 from rfl, f_X6_needed_68, q_need68b h (by omega), f_X6_needed_68, q_need68b h (by omega), f_X6_needed_68, q_need68b h (by omega), f_X6_needed_68, q_need68b h (by omega), f_X6_needed_68, f_X6_needed_68b, if_pos (by decide)]
  rfl
theorem q_canBeDug {A : aG} (h : MR0 (vp V) A) (hF : 8 ≤ F) {b : Nat} (hb : b < 32) : f_X6_canBeDug κ F (some m) (Int32.ofNat b) (MH m V σ) = some (if digg A b then 1 else 0, MH m V σ) := by
  obtain ⟨r1, r2, r3, -⟩ := h.1 b hb
  have hq3 : f_X6_of κ F (some m) (Int32.ofNat b) (3 : Int32) (MH m V σ) = some (vp V (14 * b + 3), MH m V σ) := q_of (w := 3) (by omega)
  simp only [f_X6_canBeDug, f_X6_canBeDug_0, f_X6_canBeDug_28, f_X6_canBeDug_29, MH_ck, gB1_s, q_of0 hb, gB2_s, hq3, q_needed h hF, r1, gok_z0, gok_z1]
  unfold digg
  by_cases hs : aSt A b = 2
  · rw [if_pos (by rw [hs]; rfl), r3 hs]
    by_cases hl : aFw A b ≤ need A (-1)
    · rw [if_neg (Int32.not_lt.mpr hl), if_pos (by simp [hs, hl])]
    · rw [if_pos (Int32.not_le.mp hl), if_neg (by simp [hl])]
  · rw [if_neg (show ¬ Int32.ofNat (aSt A b) = (2 : Int32) from fun e => hs ((i3_inj (b := 2) (by omega) (by omega)).mp e)), if_neg (by simp [hs])]
theorem best_s (A : aG) (n : Nat) : best A (n + 1) = bst A (best A n) n := by
  unfold best
  rw [List.range_succ, List.foldl_append]
  rfl
theorem best_lt {A : aG} {n c : Nat} (h : best A n = some c) : c < n := by
  induction n generalizing c with
  | zero => cases h
  | succ n ih =>
    rw [best_s] at h
    unfold bst at h
    split at h
    · cases hn : best A n with
      | none => rw [hn] at h; cases h; omega
      | some d =>
        rw [hn] at h
        have := ih hn
        simp only at h
        split at h
        · cases h; omega
        · cases h; omega
    · have := ih h; omega
/-- what stands for 'none yet' -/
def neg1 (o : Option Nat) : Int32 := match o with
  | none => -1
  | some c => Int32.ofNat c
theorem best_2 {A : aG} {n c : Nat} (h : best A n = some c) : digg A c = true := by
  induction n generalizing c with
  | zero => cases h
  | succ n ih =>
    rw [best_s] at h
    unfold bst at h
    split at h
    · rename_i hg
      cases hn : best A n with
      | none => rw [hn] at h; cases h; exact hg
      | some d =>
        rw [hn] at h
        simp only at h
        split at h
        · cases h; exact hg
        · cases h; exact ih hn
    · exact ih h
theorem q_nextNow4 {A : aG} (h : MR0 (vp V) A) (hF : 8 ≤ F) : ∀ (d fuel k : Nat), k + d = 32 → d < fuel → f_X6_nextNow_4 κ F fuel (some m) (neg1 (best A k)) (Int32.ofNat k) (MH m V σ) = f_X6_nextNow_62 κ F F (some m) (neg1 (best A 32)) (31 : Int32) (MH m V σ)
  | 0, fuel, k, hk, hf => by
    obtain ⟨f, rfl⟩ : ∃ f, fuel = f + 1 := ⟨fuel - 1, by omega⟩
    have hk : k = 32 := by omega
    subst hk
    rw [f_X6_nextNow_4, f_X6_nextNow_4b, if_pos (by decide)]
  | d + 1, fuel, k, hk, hf => by
    obtain ⟨f, rfl⟩ : ∃ f, fuel = f + 1 := ⟨fuel - 1, by omega⟩
    have c4 : ¬ ((32 : Int32) ≤ Int32.ofNat k) := by rw [show (32 : Int32) = Int32.ofNat 32 from rfl, i3_le (by omega) (by omega)]; omega
    have ih := q_nextNow4 h hF d f (k + 1) (by omega) (by omega)
    rw [f_X6_nextNow_4, f_X6_nextNow_4b, if_neg c4, MH_ck, gB1_s, q_canBeDug h hF (by omega), gB2_s]
    rw [best_s] at ih
    unfold bst at ih
    by_cases hd : digg A k = true
    · rw [if_pos hd] at ih
      rw [if_pos hd, if_neg (by decide)]
      cases hb : best A k with
      | none =>
        rw [hb] at ih
        rw [if_pos (by decide), f_X6_nextNow_37, f_X6_nextNow_42, if_neg (by decide), f_X6_nextNow_52, i3_s]
        exact ih
      | some c =>
        rw [hb] at ih
        have hc := best_lt hb
        have hdc := best_2 hb
        have q3 : ∀ b, b < 32 → f_X6_of κ F (some m) (Int32.ofNat b) (3 : Int32) (MH m V σ) = some (vp V (14 * b + 3), MH m V σ) := fun b hb => q_of (w := 3) (by omega)
        have f1 : vp V (14 * k + 3) = aFw A k := (h.1 k (by omega)).2.2.1 (by unfold digg at hd; exact (of_decide_eq_true hd).1)
        have f2 : vp V (14 * c + 3) = aFw A c := (h.1 c (by omega)).2.2.1 (by unfold digg at hdc; exact (of_decide_eq_true hdc).1)
        have hn : ¬ (Int32.ofNat c < 0) := (i3_ok (by omega)).1
        show (if Int32.ofNat c < 0 then _ else _) = _
        rw [if_neg hn, MH_ck, gB1_s, q3 k (by omega), gB2_s, MH_ck, gB1_s]
        show gB2 (f_X6_of κ F (some m) (Int32.ofNat c) (3 : Int32) (MH m V σ)) _ = _
        rw [q3 c (by omega), gB2_s, f1, f2]
        simp only at ih
        by_cases hl : aFw A k < aFw A c
        · rw [if_pos hl] at ih
          rw [if_neg (Int32.not_le.mpr hl), f_X6_nextNow_37, f_X6_nextNow_42, if_neg (by decide), f_X6_nextNow_52, i3_s]
          exact ih
        · rw [if_neg hl] at ih
          rw [if_pos (Int32.not_lt.mp hl), f_X6_nextNow_41, f_X6_nextNow_42, if_pos rfl, f_X6_nextNow_52, i3_s]
          exact ih
    · rw [if_neg hd] at ih
      rw [if_neg hd, if_pos rfl, f_X6_nextNow_41, f_X6_nextNow_42, if_pos rfl, f_X6_nextNow_52, i3_s]
      exact ih
/-- a place one below k -/
def prd (k : Nat) : Int32 := match k with
  | 0 => -1
  | k + 1 => Int32.ofNat k
theorem prd_s (k : Nat) (h : k < 2147483647) : prd (k + 1) + (-1 : Int32) = prd k := by
  cases k with
  | zero => decide
  | succ k =>
    show Int32.ofNat (k + 1) + (-1 : Int32) = Int32.ofNat k
    rw [← i3_s, Int32.add_assoc, show (1 : Int32) + -1 = 0 from by decide, Int32.add_zero]
theorem wld_lt {A : aG} {d c : Nat} (h : wld A d = some c) : c < 32 ∧ aSt A c = 0 := by
  induction d with
  | zero => cases h
  | succ d ih =>
    rw [wld] at h
    split at h
    · rename_i hs
      cases h
      exact ⟨by omega, hs⟩
    · exact ih h
theorem neg1_neg (o : Option Nat) (h : ∀ c, o = some c → c < 2147483648) : (neg1 o < 0) ↔ o = none := by
  cases o with
  | none => exact ⟨fun _ => rfl, fun _ => by decide⟩
  | some c => exact ⟨fun e => absurd e (i3_ok (h c rfl)).1, fun e => by cases e⟩
theorem q_nextNow62 {A : aG} (h : MR0 (vp V) A) : ∀ (r fuel d : Nat), r + d = 32 → r < fuel → f_X6_nextNow_62 κ F fuel (some m) (neg1 (wld A d)) (prd r) (MH m V σ) = some (neg1 (wld A 32), MH m V σ)
  | 0, fuel, d, hd, hf => by
    obtain ⟨f, rfl⟩ : ∃ f, fuel = f + 1 := ⟨fuel - 1, by omega⟩
    have hd : d = 32 := by omega
    subst hd
    rw [f_X6_nextNow_62, f_X6_nextNow_62b, if_pos (by decide), f_X6_nextNow_100]
  | r + 1, fuel, d, hd, hf => by
    obtain ⟨f, rfl⟩ : ∃ f, fuel = f + 1 := ⟨fuel - 1, by omega⟩
    have ih := q_nextNow62 h r f (d + 1) (by omega) (by omega)
    have hr : 31 - d = r := by omega
    rw [wld, hr] at ih
    have h79 : f_X6_nextNow_79 κ F (f_X6_nextNow_62 κ F f) (some m) (neg1 (wld A d)) (prd (r + 1)) (MH m V σ) = some (neg1 (wld A 32), MH m V σ) := by
      rw [f_X6_nextNow_79, MH_ck, gB1_s]
      show gB2 (f_X6_of κ F (some m) (Int32.ofNat r) (0 : Int32) (MH m V σ)) _ = _
      rw [q_of0 (by omega), gB2_s, (h.1 r (by omega)).1]
      by_cases hs : aSt A r = 0
      · rw [if_pos (by rw [hs]; rfl), f_X6_nextNow_93, prd_s _ (by omega)]
        rw [if_pos hs] at ih
        exact ih
      · rw [if_neg (show ¬ Int32.ofNat (aSt A r) = (0 : Int32) from fun e => hs ((i3_inj (b := 0) (by have := (h.1 r (by omega)).2.1; omega) (by omega)).mp e)), f_X6_nextNow_93, prd_s _ (by omega)]
        rw [if_neg hs] at ih
        exact ih
    have hp : ¬ (prd (r + 1) < 0) := (i3_ok (show r < 2147483648 by omega)).1
    rw [f_X6_nextNow_62, f_X6_nextNow_62b, if_neg hp]
    cases hw : wld A d with
    | none =>
      rw [hw] at h79
      rw [if_pos (by decide)]
      exact h79
    | some c =>
      rw [hw] at h79
      obtain ⟨hc, hs⟩ := wld_lt hw
      have hn : ¬ (neg1 (some c) < 0) := (i3_ok (by omega)).1
      rw [if_neg hn, MH_ck, gB1_s]
      show gB2 (f_X6_of κ F (some m) (Int32.ofNat c) (0 : Int32) (MH m V σ)) _ = _
      rw [q_of0 hc, gB2_s, (h.1 c hc).1, if_pos (by rw [hs]; rfl)]
      exact h79
theorem q_nextNow {A : aG} (h : MR0 (vp V) A) (hF : 40 ≤ F) : f_X6_nextNow κ F (some m) (MH m V σ) = some (neg1 (next A), MH m V σ) := by
  rw [f_X6_nextNow, f_X6_nextNow_0]
  show f_X6_nextNow_4 κ F F (some m) (neg1 (best A 0)) (Int32.ofNat 0) (MH m V σ) = _
  rw [q_nextNow4 h (by omega) 32 F 0 (by omega) (by omega)]
  unfold next
  cases hb : best A 32 with
  | none => exact q_nextNow62 h 32 F 0 (by omega) (by omega)
  | some c =>
    have hc := best_lt hb
    have hd := best_2 hb
    have hs : aSt A c = 2 := by unfold digg at hd; exact (of_decide_eq_true hd).1
    obtain ⟨f, rfl⟩ : ∃ f, F = f + 1 := ⟨F - 1, by omega⟩
    have hn : ¬ (neg1 (some c) < 0) := (i3_ok (by omega)).1
    rw [f_X6_nextNow_62, f_X6_nextNow_62b, if_neg (by decide), if_neg hn, MH_ck, gB1_s]
    show gB2 (f_X6_of κ (f + 1) (some m) (Int32.ofNat c) (0 : Int32) (MH m V σ)) _ = _
    rw [q_of0 hc, gB2_s, (h.1 c hc).1, if_neg (by rw [hs]; decide), f_X6_nextNow_100]
    rfl
/-- counting -/
theorem cnt_s (f : Nat → Bool) (n : Nat) : cnt f (n + 1) = cnt f n + (if f n then 1 else 0) := by
  unfold cnt
  rw [List.range_succ, List.countP_append]
  simp [List.countP_cons]
theorem cnt_le (f : Nat → Bool) (n : Nat) : cnt f n ≤ n := by
  unfold cnt
  have := List.countP_le_length (p := f) (l := List.range n)
  rwa [List.length_range] at this
def many (A : aG) : Nat := cnt (fun b => digg A b || decide (aSt A b = 0)) 32
theorem q_many4 {A : aG} (h : MR0 (vp V) A) (hF : 8 ≤ F) : ∀ (d fuel k : Nat), k + d = 32 → d < fuel → f_X6_manyToDig_4 κ F fuel (some m) (Int32.ofNat (cnt (fun b => digg A b || decide (aSt A b = 0)) k)) (Int32.ofNat k) (MH m V σ) = some (Int32.ofNat (many A), MH m V σ)
  | 0, fuel, k, hk, hf => by
    obtain ⟨f, rfl⟩ : ∃ f, fuel = f + 1 := ⟨fuel - 1, by omega⟩
    have hk : k = 32 := by omega
    subst hk
    rw [f_X6_manyToDig_4, f_X6_manyToDig_4b, if_pos (by decide)]
    rfl
  | d + 1, fuel, k, hk, hf => by
    obtain ⟨f, rfl⟩ : ∃ f, fuel = f + 1 := ⟨fuel - 1, by omega⟩
    have c4 : ¬ ((32 : Int32) ≤ Int32.ofNat k) := by rw [show (32 : Int32) = Int32.ofNat 32 from rfl, i3_le (by omega) (by omega)]; omega
    have ih := q_many4 h hF d f (k + 1) (by omega) (by omega)
    rw [cnt_s] at ih
    rw [f_X6_manyToDig_4, f_X6_manyToDig_4b, if_neg c4, MH_ck, gB1_s, q_canBeDug h hF (by omega), gB2_s]
    by_cases hd : digg A k = true
    · rw [if_pos hd, if_neg (by decide), f_X6_manyToDig_28, f_X6_manyToDig_33, i3_s, i3_s]
      rw [if_pos (by rw [hd]; rfl)] at ih
      exact ih
    · rw [if_neg hd, if_pos rfl, MH_ck, gB1_s, q_of0 (by omega), gB2_s, (h.1 k (by omega)).1]
      by_cases hs : aSt A k = 0
      · rw [if_pos (by rw [hs]; rfl), f_X6_manyToDig_28, f_X6_manyToDig_33, i3_s, i3_s]
        rw [if_pos (by simp [hs])] at ih
        exact ih
      · rw [if_neg (show ¬ Int32.ofNat (aSt A k) = (0 : Int32) from fun e => hs ((i3_inj (b := 0) (by have := (h.1 k (by omega)).2.1; omega) (by omega)).mp e)), f_X6_manyToDig_33, i3_s, Int32.add_zero]
        rw [if_neg (by simp [hs, hd])] at ih
        exact ih
theorem q_many {A : aG} (h : MR0 (vp V) A) (hF : 40 ≤ F) : f_X6_manyToDig κ F (some m) (MH m V σ) = some (Int32.ofNat (many A), MH m V σ) := by
  rw [f_X6_manyToDig, f_X6_manyToDig_0]
  exact q_many4 h (by omega) 32 F 0 (by omega) (by omega)
theorem MR_leaf {A : aG} {b : Nat} {l : List (Int32 × Int32)} {P : mR} (h : MR0 P A) (hb : b < 32) (hs : aSt A b ≠ 0) (hp : aPg A b = .inl l) : P (14 * b + 1) = 0 ∧ P (14 * b + 2) = Int32.ofNat l.length ∧ l.length ≤ 4 ∧ ∀ i, i < l.length → P (14 * b + (6 + 2 * i)) = (l.getD i (0, 0)).1 ∧ P (14 * b + (6 + 2 * i + 1)) = (l.getD i (0, 0)).2 := by
  have h1 := (h.1 b hb).2.2.2.2.2 hs
  rw [hp] at h1
  obtain ⟨a1, a2, a3, a4⟩ := h1
  refine ⟨a1, a2, a3, fun i hi => ?_⟩
  have := a4 i hi
  rwa [show l.getD i (0, 0) = l[i] from by rw [List.getD_eq_getElem?_getD, List.getElem?_eq_getElem hi]; rfl]
theorem MR_dir {A : aG} {b : Nat} {D : List Nat} {P : mR} (h : MR0 P A) (hb : b < 32) (hs : aSt A b ≠ 0) (hp : aPg A b = .inr D) : P (14 * b + 1) = 1 ∧ P (14 * b + 2) = Int32.ofNat D.length ∧ D.length ≤ 6 ∧ ∀ i, i < D.length → P (14 * b + (6 + i)) = Int32.ofNat (D.getD i 0) := by
  have h1 := (h.1 b hb).2.2.2.2.2 hs
  rw [hp] at h1
  obtain ⟨a1, a2, a3, a4⟩ := h1
  refine ⟨a1, a2, a3, fun i hi => ?_⟩
  have := a4 i hi
  rwa [show D.getD i 0 = D[i] from by rw [List.getD_eq_getElem?_getD, List.getElem?_eq_getElem hi]; rfl]
theorem getD_mem {α : Type} {l : List α} {i : Nat} {x : α} (h : i < l.length) : l.getD i x ∈ l := by
  rw [List.getD_eq_getElem?_getD, List.getElem?_eq_getElem h]
  exact List.getElem_mem h
theorem leafL_of {A : aG} {b : Nat} {l : List (Int32 × Int32)} (h : aPg A b = .inl l) : leafL A b = l := by unfold leafL; rw [h]
theorem dirL_of {A : aG} {b : Nat} {D : List Nat} (h : aPg A b = .inr D) : dirL A b = D := by unfold dirL; rw [h]
theorem q_of2 {b : Nat} (h : b < 32) : f_X6_of κ F (some m) (Int32.ofNat b) (2 : Int32) (MH m V σ) = some (vp V (14 * b + 2), MH m V σ) := q_of (w := 2) (by omega)
theorem q_keyAt0 {b : Nat} (h : b < 32) : f_X6_keyAt κ F (some m) (Int32.ofNat b) (0 : Int32) (MH m V σ) = some (vp V (14 * b + (6 + 2 * 0)), MH m V σ) := q_keyAt (w := 0) (by omega)
theorem q_placeFor18 {A : aG} (h : MR0 (vp V) A) {dd : Nat} {D : List Nat} (hD : okD A dd D) (key : Int32) : ∀ (d fuel k : Nat), k + d = D.length → d < fuel → f_X6_placeFor_18 κ F fuel (some m) (Int32.ofNat dd) key (if D = [] then -1 else Int32.ofNat (plc A D key k)) (Int32.ofNat k) (MH m V σ) = some (if D = [] then -1 else Int32.ofNat (plc A D key D.length), MH m V σ)
  | 0, fuel, k, hk, hf => by
    obtain ⟨f, rfl⟩ : ∃ f, fuel = f + 1 := ⟨fuel - 1, by omega⟩
    have hk : k = D.length := by omega
    subst hk
    rw [f_X6_placeFor_18, f_X6_placeFor_18b, MH_ck, gB1_s, q_of2 hD.1, gB2_s, (MR_dir h hD.1 hD.2.1 hD.2.2.1).2.1, if_pos (Int32.le_refl _)]
  | d + 1, fuel, k, hk, hf => by
    obtain ⟨f, rfl⟩ : ∃ f, fuel = f + 1 := ⟨fuel - 1, by omega⟩
    obtain ⟨a1, a2, a3, a4⟩ := MR_dir h hD.1 hD.2.1 hD.2.2.1
    have ih := q_placeFor18 h hD key d f (k + 1) (by omega) (by omega)
    have hne : D ≠ [] := fun e => by rw [e] at hk; simp at hk
    obtain ⟨b1, b2, l, b3, b4⟩ := hD.2.2.2 (D.getD k 0) (getD_mem (by omega))
    obtain ⟨c1, c2, c3, c4⟩ := MR_leaf h b1 b2 b3
    have hl : 0 < l.length := List.length_pos_iff.mpr b4
    rw [if_neg hne] at ih ⊢
    rw [if_neg hne] at ih ⊢
    have hd1 := hD.1
    rw [f_X6_placeFor_18, f_X6_placeFor_18b, MH_ck, gB1_s, q_of2 hD.1, gB2_s, a2, if_neg (by rw [i3_le (by omega) (by omega)]; omega), MH_ck, gB1_s, q_leafAt (by omega), gB2_s, a4 k (by omega), MH_ck, gB1_s, q_keyAt0 b1, gB2_s, (c4 0 hl).1]
    rw [plc] at ih
    unfold fkey at ih
    rw [leafL_of b3] at ih
    by_cases hc : (l.getD 0 (0, 0)).1 ≤ key
    · rw [if_pos hc] at ih
      rw [if_neg (Int32.not_lt.mpr hc), f_X6_placeFor_51, i3_s]
      exact ih
    · rw [if_neg hc] at ih
      rw [if_pos (Int32.not_le.mp hc), f_X6_placeFor_51, i3_s]
      exact ih
theorem q_placeFor {A : aG} (h : MR0 (vp V) A) (hF : 40 ≤ F) {dd : Nat} {D : List Nat} (hD : okD A dd D) (key : Int32) : f_X6_placeFor κ F (some m) (Int32.ofNat dd) key (MH m V σ) = some (if D = [] then -1 else Int32.ofNat (plc A D key D.length), MH m V σ) := by
  obtain ⟨a1, a2, a3, a4⟩ := MR_dir h hD.1 hD.2.1 hD.2.2.1
  have h18 := q_placeFor18 (κ := κ) (F := F) (m := m) (σ := σ) h hD key D.length F 0 (by omega) (by omega)
  rw [f_X6_placeFor, f_X6_placeFor_0, MH_ck, gB1_s, q_of2 hD.1, gB2_s, a2]
  by_cases hn : D = []
  · rw [if_pos hn] at h18 ⊢
    rw [if_pos (by rw [hn]; rfl), f_X6_placeFor_14]
    rw [if_pos hn] at h18
    exact h18
  · rw [if_neg hn] at h18 ⊢
    rw [if_neg (show ¬ Int32.ofNat D.length = (0 : Int32) from fun e => hn (List.eq_nil_of_length_eq_zero ((i3_inj (b := 0) (by omega) (by omega)).mp e))), f_X6_placeFor_14]
    rw [if_neg hn] at h18
    exact h18
theorem q_placeIn2 {A : aG} (h : MR0 (vp V) A) {b : Nat} {l : List (Int32 × Int32)} (hb : b < 32) (hs : aSt A b ≠ 0) (hp : aPg A b = .inl l) (key : Int32) : ∀ (L2 L1 : List (Int32 × Int32)) (fuel : Nat), l = L1 ++ L2 → lkp L1 key = none → L2.length < fuel → f_X6_placeIn_2 κ F fuel (some m) (Int32.ofNat b) key (Int32.ofNat L1.length) (MH m V σ) = some (neg1 (lkp l key), MH m V σ)
  | [], L1, fuel, hl, h1, hf => by
    obtain ⟨f, rfl⟩ : ∃ f, fuel = f + 1 := ⟨fuel - 1, by omega⟩
    obtain ⟨c1, c2, c3, c4⟩ := MR_leaf h hb hs hp
    rw [List.append_nil] at hl
    subst hl
    rw [f_X6_placeIn_2, f_X6_placeIn_2b, MH_ck, gB1_s, q_of2 hb, gB2_s, c2, if_pos (Int32.le_refl _), h1]
    rfl
  | x :: L2, L1, fuel, hl, h1, hf => by
    rw [List.length_cons] at hf
    obtain ⟨f, rfl⟩ : ∃ f, fuel = f + 1 := ⟨fuel - 1, by omega⟩
    obtain ⟨c1, c2, c3, c4⟩ := MR_leaf h hb hs hp
    have hlen : l.length = L1.length + (L2.length + 1) := by rw [hl, List.length_append, List.length_cons]
    have hx : l.getD L1.length (0, 0) = x := by rw [hl]; simp
    have c5 := (c4 L1.length (by omega)).1
    rw [hx] at c5
    rw [f_X6_placeIn_2, f_X6_placeIn_2b, MH_ck, gB1_s, q_of2 hb, gB2_s, c2, if_neg (by rw [i3_le (by omega) (by omega)]; omega), MH_ck, gB1_s, q_keyAt (by omega), gB2_s, c5]
    unfold lkp at h1
    by_cases hk : x.1 = key
    · rw [if_pos hk]
      have : lkp l key = some L1.length := by
        unfold lkp
        rw [hl, List.findIdx?_append, h1, List.findIdx?_cons]
        simp [hk]
      rw [this]; rfl
    · rw [if_neg hk, i3_s]
      have ih := q_placeIn2 h hb hs hp key L2 (L1 ++ [x]) f (by rw [hl]; simp) (by
        unfold lkp
        rw [List.findIdx?_append, h1, List.findIdx?_cons]
        simp [hk]) (by omega)
      rw [List.length_append] at ih
      exact ih
theorem q_placeIn {A : aG} (h : MR0 (vp V) A) (hF : 40 ≤ F) {b : Nat} {l : List (Int32 × Int32)} (hb : b < 32) (hs : aSt A b ≠ 0) (hp : aPg A b = .inl l) (key : Int32) : f_X6_placeIn κ F (some m) (Int32.ofNat b) key (MH m V σ) = some (neg1 (lkp l key), MH m V σ) := by
  obtain ⟨c1, c2, c3, c4⟩ := MR_leaf h hb hs hp
  rw [f_X6_placeIn, f_X6_placeIn_0]
  exact q_placeIn2 h hb hs hp key l [] F rfl rfl (by omega)
theorem neg1_nn {o : Option Nat} (h : ∀ c, o = some c → c < 2147483648) : (0 ≤ neg1 o) ↔ o ≠ none := by
  rw [← Int32.not_lt, neg1_neg o h]
theorem lkp_lt {l : List (Int32 × Int32)} {key : Int32} {i : Nat} (h : lkp l key = some i) : i < l.length := by
  unfold lkp at h
  exact (List.findIdx?_eq_some_iff_findIdx_eq.mp h).1
theorem q_valueBy {A : aG} (h : MR0 (vp V) A) (hF : 40 ≤ F) {dd : Nat} {D : List Nat} (hD : okD A dd D) (key : Int32) : f_X6_valueBy κ F (some m) (Int32.ofNat dd) key (MH m V σ) = some (valBy A dd key, MH m V σ) := by
  obtain ⟨a1, a2, a3, a4⟩ := MR_dir h hD.1 hD.2.1 hD.2.2.1
  have hd1 := hD.1
  unfold valBy
  rw [f_X6_valueBy, f_X6_valueBy_0, MH_ck, gB1_s, q_placeFor h hF hD, gB2_s, dirL_of hD.2.2.1]
  cases D with
  | nil => rw [if_pos rfl, if_neg (by decide), f_X6_valueBy_26, if_neg (by decide), f_X6_valueBy_51]
  | cons b0 D =>
    have hp : plc A (b0 :: D) key (b0 :: D).length < (b0 :: D).length := plc_lt _ (by simp)
    simp only
    generalize plc A (b0 :: D) key (b0 :: D).length = p at hp
    obtain ⟨b1, b2, l, b3, b4⟩ := hD.2.2.2 ((b0 :: D).getD p 0) (getD_mem hp)
    obtain ⟨c1, c2, c3, c4⟩ := MR_leaf h b1 b2 b3
    have hnn : (0 : Int32) ≤ Int32.ofNat p := Int32.not_lt.mp (i3_ok (by omega)).1
    rw [if_neg (List.cons_ne_nil b0 D), if_pos hnn, MH_ck, gB1_s, q_leafAt (by omega), gB2_s, a4 p hp, MH_ck, gB1_s, q_placeIn h hF b1 b2 b3, gB2_s, f_X6_valueBy_26, leafL_of b3]
    cases hk : lkp l key with
    | none => rw [if_neg (by decide), f_X6_valueBy_51]
    | some i =>
      have hi := lkp_lt hk
      rw [if_pos ((neg1_nn (fun c e => by cases e; omega)).mpr (by simp)), MH_ck, gB1_s, q_leafAt (by omega), gB2_s, a4 p hp, MH_ck, gB1_s]
      show gB2 (f_X6_valueAt κ F (some m) _ (Int32.ofNat i) (MH m V σ)) _ = _
      rw [q_valueAt (by omega), gB2_s, (c4 i hi).2, f_X6_valueBy_51]
theorem q_entriesBy4 {A : aG} (h : MR0 (vp V) A) {dd : Nat} {D : List Nat} (hD : okD A dd D) : ∀ (D2 D1 : List Nat) (fuel : Nat), D = D1 ++ D2 → D2.length < fuel → f_X6_entriesBy_4 κ F fuel (some m) (Int32.ofNat dd) (Int32.ofNat (entsBy A D1)) (Int32.ofNat D1.length) (MH m V σ) = some (Int32.ofNat (entsBy A D), MH m V σ)
  | [], D1, fuel, hl, hf => by
    obtain ⟨f, rfl⟩ : ∃ f, fuel = f + 1 := ⟨fuel - 1, by omega⟩
    rw [List.append_nil] at hl
    subst hl
    rw [f_X6_entriesBy_4, f_X6_entriesBy_4b, MH_ck, gB1_s, q_of2 hD.1, gB2_s, (MR_dir h hD.1 hD.2.1 hD.2.2.1).2.1, if_pos (Int32.le_refl _)]
  | x :: D2, D1, fuel, hl, hf => by
    rw [List.length_cons] at hf
    obtain ⟨f, rfl⟩ : ∃ f, fuel = f + 1 := ⟨fuel - 1, by omega⟩
    obtain ⟨a1, a2, a3, a4⟩ := MR_dir h hD.1 hD.2.1 hD.2.2.1
    have hlen : D.length = D1.length + (D2.length + 1) := by rw [hl, List.length_append, List.length_cons]
    have hx : D.getD D1.length 0 = x := by rw [hl]; simp
    obtain ⟨b1, b2, l, b3, b4⟩ := hD.2.2.2 x (by rw [hl]; simp)
    obtain ⟨c1, c2, c3, c4⟩ := MR_leaf h b1 b2 b3
    have c5 := a4 D1.length (by omega)
    rw [hx] at c5
    have hd1 := hD.1
    have ih := q_entriesBy4 h hD D2 (D1 ++ [x]) f (by rw [hl]; simp) (by omega)
    rw [List.length_append, show entsBy A (D1 ++ [x]) = entsBy A D1 + l.length from by unfold entsBy; simp [leafL_of b3]] at ih
    rw [f_X6_entriesBy_4, f_X6_entriesBy_4b, MH_ck, gB1_s, q_of2 hD.1, gB2_s, a2, if_neg (by rw [i3_le (by omega) (by omega)]; omega), MH_ck, gB1_s, q_leafAt (by omega), gB2_s, c5, MH_ck, gB1_s, q_of2 b1, gB2_s, c2, i3_add, i3_s]
    exact ih
theorem q_entriesBy {A : aG} (h : MR0 (vp V) A) (hF : 40 ≤ F) {dd : Nat} {D : List Nat} (hD : okD A dd D) : f_X6_entriesBy κ F (some m) (Int32.ofNat dd) (MH m V σ) = some (Int32.ofNat (entsBy A D), MH m V σ) := by
  obtain ⟨a1, a2, a3, a4⟩ := MR_dir h hD.1 hD.2.1 hD.2.2.1
  rw [f_X6_entriesBy, f_X6_entriesBy_0]
  exact q_entriesBy4 h hD D [] F rfl (by omega)
theorem q_nowR {A : aG} (h : MRr (vp V) A) (hn : okNow A) : f_X6_now κ F (some m) (MH m V σ) = some (Int32.ofNat (nowD A), MH m V σ) := by
  have h1 := (h _ (cur2 A)).2.1
  unfold okNow at hn
  rw [hn] at h1
  rw [f_X6_now, f_X6_now_0, MH_ck, gB1_s, q_currentR h, gB2_s, MH_ck, gB1_s, q_ofRoot1 (cur2 A), gB2_s, h1]
theorem q_now {A : aG} (h : MR0 (vp V) A) (hn : okNow A) : f_X6_now κ F (some m) (MH m V σ) = some (Int32.ofNat (nowD A), MH m V σ) := q_nowR h.2.1 hn
theorem any_iff {A : aG} : (anyNew A = true) ↔ ∃ d, aDr A = some d ∧ ∃ b, b < 32 ∧ d.1 b = true := by
  unfold anyNew
  cases aDr A with
  | none => simp
  | some d => simp [List.any_eq_true, List.mem_range]
theorem q_first {A : aG} (h : MR (vp V) A) : vp V 467 = if anyNew A then Int32.ofNat (drD A) else -1 := by
  have h3 := h.2.2.2.1
  by_cases ha : anyNew A = true
  · rw [if_pos ha]
    obtain ⟨d, hd, b, hb⟩ := any_iff.mp ha
    rw [hd] at h3
    unfold drD
    rw [hd]
    exact h3.2.1 ⟨b, hb⟩
  · rw [if_neg ha]
    cases hd : aDr A with
    | none => rw [hd] at h3; exact h3.2
    | some d =>
      rw [hd] at h3
      refine (h3.2.2 fun b hb => ?_).1
      cases hv : d.1 b with
      | false => rfl
      | true => exact absurd (any_iff.mpr ⟨d, hd, b, hb, hv⟩) ha
theorem drD_now {A : aG} (h : MR (vp V) A) (ha : anyNew A ≠ true) : drD A = nowD A := by
  have h3 := h.2.2.2.1
  unfold drD
  cases hd : aDr A with
  | none => rfl
  | some d =>
    rw [hd] at h3
    refine (h3.2.2 fun b hb => ?_).2
    cases hv : d.1 b with
    | false => rfl
    | true => exact absurd (any_iff.mpr ⟨d, hd, b, hb, hv⟩) ha
theorem q_drafts {A : aG} (h : MR (vp V) A) (hn : okNow A) (hd : drD A < 32) : f_X6_drafts κ F (some m) (MH m V σ) = some (Int32.ofNat (drD A), MH m V σ) := by
  have h1 := q_first h
  have hg : gaI (MH m V σ) (some (m + 1)) 0 (467 : Int32) = some (vp V 467) := MH_gvp (k := 467) rfl (by omega)
  rw [f_X6_drafts, f_X6_drafts_0, MH_rvp, gB1_s, hg, gB1_s, h1]
  by_cases ha : anyNew A = true
  · rw [if_pos ha, if_pos (Int32.not_lt.mp (i3_ok (by omega)).1), gB1_s, hg, gB1_s, h1, if_pos ha, f_X6_drafts_26]
  · rw [if_neg ha, if_neg (by decide), MH_ck, gB1_s, q_now (MR_0 h) hn, gB2_s, f_X6_drafts_26, drD_now h ha]
theorem q_freed4 {A : aG} (h : MR0 (vp V) A) (hF : 8 ≤ F) : ∀ (d fuel k : Nat), k + d = 32 → d < fuel → f_X6_freedToDig_4 κ F fuel (some m) (Int32.ofNat (cnt (digg A) k)) (Int32.ofNat k) (MH m V σ) = some (Int32.ofNat (cnt (digg A) 32), MH m V σ)
  | 0, fuel, k, hk, hf => by
    obtain ⟨f, rfl⟩ : ∃ f, fuel = f + 1 := ⟨fuel - 1, by omega⟩
    have hk : k = 32 := by omega
    subst hk
    rw [f_X6_freedToDig_4, f_X6_freedToDig_4b, if_pos (by decide)]
  | d + 1, fuel, k, hk, hf => by
    obtain ⟨f, rfl⟩ : ∃ f, fuel = f + 1 := ⟨fuel - 1, by omega⟩
    have c4 : ¬ ((32 : Int32) ≤ Int32.ofNat k) := by rw [show (32 : Int32) = Int32.ofNat 32 from rfl, i3_le (by omega) (by omega)]; omega
    have ih := q_freed4 h hF d f (k + 1) (by omega) (by omega)
    rw [cnt_s] at ih
    rw [f_X6_freedToDig_4, f_X6_freedToDig_4b, if_neg c4, MH_ck, gB1_s, q_canBeDug h hF (by omega), gB2_s]
    by_cases hd : digg A k = true
    · rw [if_pos hd, if_neg (by decide), f_X6_freedToDig_24, i3_s, i3_s]
      rw [if_pos hd] at ih
      exact ih
    · rw [if_neg hd, if_pos rfl, f_X6_freedToDig_24, i3_s, Int32.add_zero]
      rw [if_neg hd] at ih
      exact ih
theorem q_freed {A : aG} (h : MR0 (vp V) A) (hF : 40 ≤ F) : f_X6_freedToDig κ F (some m) (MH m V σ) = some (Int32.ofNat (cnt (digg A) 32), MH m V σ) := by
  rw [f_X6_freedToDig, f_X6_freedToDig_0]
  exact q_freed4 h (by omega) 32 F 0 (by omega) (by omega)
theorem q_bedsWith5 {x v : Int32} {w : Nat} {g : Nat → Bool} (hx : x = Int32.ofNat w) (hw : w < 14) (hg : ∀ b, b < 32 → (vp V (14 * b + w) = v ↔ g b = true)) : ∀ (d fuel k : Nat), k + d = 32 → d < fuel → f_X6_bedsWith_5 κ F fuel (some m) x v (Int32.ofNat (cnt g k)) (Int32.ofNat k) (MH m V σ) = some (Int32.ofNat (cnt g 32), MH m V σ)
  | 0, fuel, k, hk, hf => by
    obtain ⟨f, rfl⟩ : ∃ f, fuel = f + 1 := ⟨fuel - 1, by omega⟩
    have hk : k = 32 := by omega
    subst hk
    rw [f_X6_bedsWith_5, f_X6_bedsWith_5b, if_pos (by decide)]
  | d + 1, fuel, k, hk, hf => by
    obtain ⟨f, rfl⟩ : ∃ f, fuel = f + 1 := ⟨fuel - 1, by omega⟩
    have c4 : ¬ ((32 : Int32) ≤ Int32.ofNat k) := by rw [show (32 : Int32) = Int32.ofNat 32 from rfl, i3_le (by omega) (by omega)]; omega
    have ih := q_bedsWith5 hx hw hg d f (k + 1) (by omega) (by omega)
    rw [cnt_s] at ih
    subst hx
    rw [f_X6_bedsWith_5, f_X6_bedsWith_5b, if_neg c4, MH_ck, gB1_s, q_of (by omega), gB2_s]
    by_cases hd : g k = true
    · rw [if_pos ((hg k (by omega)).mpr hd), f_X6_bedsWith_29, i3_s, i3_s]
      rw [if_pos hd] at ih
      exact ih
    · rw [if_neg (fun e => hd ((hg k (by omega)).mp e)), f_X6_bedsWith_29, i3_s, Int32.add_zero]
      rw [if_neg hd] at ih
      exact ih
theorem q_bedsWith {x v : Int32} {w : Nat} {g : Nat → Bool} (hF : 40 ≤ F) (hx : x = Int32.ofNat w) (hw : w < 14) (hg : ∀ b, b < 32 → (vp V (14 * b + w) = v ↔ g b = true)) : f_X6_bedsWith κ F (some m) x v (MH m V σ) = some (Int32.ofNat (cnt g 32), MH m V σ) := by
  rw [f_X6_bedsWith, f_X6_bedsWith_0]
  exact q_bedsWith5 hx hw hg 32 F 0 (by omega) (by omega)
theorem q_tellNext {A : aG} (h : MR0 (vp V) A) (hF : 40 ≤ F) : f_X6_tellNext κ F (some m) (MH m V σ) = some ((match next A with | none => -1000 | some b => Int32.ofNat b), MH m V σ) := by
  have hlt : ∀ c, next A = some c → c < 2147483648 := fun c hc => by
    unfold next at hc
    cases hb : best A 32 with
    | none => rw [hb] at hc; have := (wld_lt (A := A) (d := 32) hc).1; omega
    | some e => rw [hb] at hc; cases hc; have := best_lt hb; omega
  rw [f_X6_tellNext, f_X6_tellNext_0, MH_ck, gB1_s, q_nextNow h hF, gB2_s]
  cases hn : next A with
  | none => rw [if_neg (by decide), f_X6_tellNext_16]
  | some c => rw [if_pos ((neg1_nn (fun c e => hlt c (hn.trans e))).mpr (by simp)), f_X6_tellNext_16]; rfl
theorem q_of4 {b : Nat} (h : b < 32) : f_X6_of κ F (some m) (Int32.ofNat b) (4 : Int32) (MH m V σ) = some (vp V (14 * b + 4), MH m V σ) := q_of (w := 4) (by omega)
theorem q_of3 {b : Nat} (h : b < 32) : f_X6_of κ F (some m) (Int32.ofNat b) (3 : Int32) (MH m V σ) = some (vp V (14 * b + 3), MH m V σ) := q_of (w := 3) (by omega)
theorem i3_lit {a k : Nat} (ha : a < 2147483648) (hk : k < 2147483648) : (Int32.ofNat a = Int32.ofNat k) = (a = k) := propext (i3_inj ha hk)
theorem q_bedsOf {A : aG} (h : MR (vp V) A) (hF : 40 ≤ F) (hn : okNow A) {D : List Nat} (hD : okD A (drD A) D) (key : Int32) : f_X6_bedsOf κ F (some m) key (MH m V σ) = some (bedsFor A D key, MH m V σ) := by
  obtain ⟨a1, a2, a3, a4⟩ := MR_dir (MR_0 h) hD.1 hD.2.1 hD.2.2.1
  have hd1 := hD.1
  have h1 := q_first h
  have hg : gaI (MH m V σ) (some (m + 1)) 0 (467 : Int32) = some (vp V 467) := MH_gvp (k := 467) rfl (by omega)
  have h16 : ∀ t0 : Int32, t0 = (if anyNew A then 0 else 1) → f_X6_bedsOf_16 κ F (some m) key t0 (MH m V σ) = some (bedsFor A D key, MH m V σ) := by
    intro t0 ht
    rw [f_X6_bedsOf_16, MH_ck, gB1_s, q_drafts h hn hD.1, gB2_s, MH_ck, gB1_s, q_placeFor (MR_0 h) hF hD, gB2_s]
    unfold bedsFor
    cases D with
    | nil => rw [if_pos rfl, if_neg (by decide), ht]
    | cons b0 D =>
      have hp : plc A (b0 :: D) key (b0 :: D).length < (b0 :: D).length := plc_lt _ (by simp)
      simp only
      generalize plc A (b0 :: D) key (b0 :: D).length = p at hp
      obtain ⟨b1, b2, l, b3, b4⟩ := hD.2.2.2 ((b0 :: D).getD p 0) (getD_mem hp)
      obtain ⟨c1, c2, c3, c4⟩ := MR_leaf (MR_0 h) b1 b2 b3
      have hnn : (0 : Int32) ≤ Int32.ofNat p := Int32.not_lt.mp (i3_ok (by omega)).1
      have hnew := (h.1 _ b1).2.2.2.1
      rw [if_neg (List.cons_ne_nil b0 D), if_pos hnn, MH_ck, gB1_s, q_leafAt (by omega), gB2_s, a4 p hp, MH_ck, gB1_s, q_of4 b1, gB2_s, hnew, leafL_of b3]
      have h64 : ∀ t1 : Int32, t1 = (if isNew A ((b0 :: D).getD p 0) then 0 else 1) → f_X6_bedsOf_64 κ F (some m) key t0 (Int32.ofNat (drD A)) (Int32.ofNat ((b0 :: D).getD p 0)) t1 (MH m V σ) = some (if ((lkp l key).isNone && decide (l.length = 4) && decide ((b0 :: D).length = 6)) = true then -1000 else ((if anyNew A = true then 0 else 1) + if isNew A ((b0 :: D).getD p 0) = true then 0 else 1) + if ((lkp l key).isNone && decide (l.length = 4)) = true then 1 else 0, MH m V σ) := by
        intro t1 ht1
        rw [f_X6_bedsOf_64, MH_ck, gB1_s, q_placeIn (MR_0 h) hF b1 b2 b3, gB2_s]
        cases hk : lkp l key with
        | some i =>
          have hi := lkp_lt hk
          rw [if_pos ((neg1_nn (fun c e => by cases e; omega)).mpr (by simp)), f_X6_bedsOf_91, f_X6_bedsOf_92, if_pos rfl, f_X6_bedsOf_116, if_pos rfl, f_X6_bedsOf_130, f_X6_bedsOf_131, ht, ht1]
          simp
        | none =>
          rw [if_neg (by decide), MH_ck, gB1_s, q_of2 b1, gB2_s, c2, L4]
          by_cases h4 : l.length = 4
          · rw [if_pos (by rw [h4]), f_X6_bedsOf_92, if_neg (by decide), MH_ck, gB1_s, q_of2 hD.1, gB2_s, a2, L6]
            by_cases h6 : (b0 :: D).length = 6
            · rw [if_pos (by rw [h6]), f_X6_bedsOf_131, if_pos (by simp [h4, h6])]
            · rw [if_neg (fun e => h6 ((i3_inj (by omega) (by omega)).mp e)), f_X6_bedsOf_116, if_neg (by decide), f_X6_bedsOf_130, f_X6_bedsOf_131, if_neg (by simp only [List.length_cons] at h6; simp [h4]; omega), ht, ht1]
              simp [h4]
          · rw [if_neg (fun e => h4 ((i3_inj (by omega) (by omega)).mp e)), f_X6_bedsOf_91, f_X6_bedsOf_92, if_pos rfl, f_X6_bedsOf_116, if_pos rfl, f_X6_bedsOf_130, f_X6_bedsOf_131, ht, ht1]
            simp [h4]
      by_cases hnw : isNew A ((b0 :: D).getD p 0) = true
      · rw [if_pos hnw, if_pos rfl, h64 0 (by rw [if_pos hnw])]
      · rw [if_neg hnw, if_neg (by decide), h64 1 (by rw [if_neg hnw])]
  rw [f_X6_bedsOf, f_X6_bedsOf_0, MH_rvp, gB1_s, hg, gB1_s, h1]
  by_cases ha : anyNew A = true
  · rw [if_pos ha, if_pos (Int32.not_lt.mp (i3_ok (by omega)).1)]
    exact h16 0 (by rw [if_pos ha])
  · rw [if_neg ha, if_neg (by decide)]
    exact h16 1 (by rw [if_neg ha])
theorem q_opens4 {A : aG} (h : MR0 (vp V) A) : ∀ (d fuel k : Nat), k + d = 4 → d < fuel → f_X6_openReaders_4 κ F fuel (some m) (Int32.ofNat (cnt (fun k => (aRd A k).isSome) k)) (Int32.ofNat k) (MH m V σ) = some (Int32.ofNat (opens A), MH m V σ)
  | 0, fuel, k, hk, hf => by
    obtain ⟨f, rfl⟩ : ∃ f, fuel = f + 1 := ⟨fuel - 1, by omega⟩
    have hk : k = 4 := by omega
    subst hk
    rw [f_X6_openReaders_4, f_X6_openReaders_4b, if_pos (by decide)]
    rfl
  | d + 1, fuel, k, hk, hf => by
    obtain ⟨f, rfl⟩ : ∃ f, fuel = f + 1 := ⟨fuel - 1, by omega⟩
    have c4 : ¬ ((4 : Int32) ≤ Int32.ofNat k) := by rw [L4, i3_le (by omega) (by omega)]; omega
    have ih := q_opens4 h d f (k + 1) (by omega) (by omega)
    have hr := h.2.2.1 k (by omega)
    rw [cnt_s] at ih
    rw [f_X6_openReaders_4, f_X6_openReaders_4b, if_neg c4, MH_ck, gB1_s, q_ofReader0 (by omega), gB2_s]
    cases hd : aRd A k with
    | none =>
      rw [hd] at hr ih
      have hr : vp V (454 + 3 * k + 0) = 0 := hr
      rw [hr, i3_s, Int32.add_zero]
      exact ih
    | some q =>
      rw [hd] at hr ih
      rw [hr.1, i3_s, i3_s]
      exact ih
theorem q_opens {A : aG} (h : MR0 (vp V) A) (hF : 40 ≤ F) : f_X6_openReaders κ F (some m) (MH m V σ) = some (Int32.ofNat (opens A), MH m V σ) := by
  rw [f_X6_openReaders, f_X6_openReaders_0]
  exact q_opens4 h 4 F 0 (by omega) (by omega)
theorem q_tellRoot {A : aG} (h : MR0 (vp V) A) {r w : Nat} (hr : r < 2) (hw : w < 4) (hdr : ∀ d, (aRt A r).2.1 = some d → d < 32) : f_X6_tellRoot κ F (some m) (Int32.ofNat r) (Int32.ofNat w) (MH m V σ) = some (vRoot A r w, MH m V σ) := by
  obtain ⟨r1, r2, r3⟩ := h.2.1 r hr
  have hq2 : f_X6_ofRoot κ F (some m) (Int32.ofNat r) (Int32.ofNat 2) (MH m V σ) = some (vp V (448 + 3 * r + 2), MH m V σ) := q_ofRoot (by omega)
  rw [f_X6_tellRoot, f_X6_tellRoot_0]
  match w, hw with
  | 0, _ => rw [if_neg (by decide), MH_ck, gB1_s, q_ofRoot (by omega), gB2_s, r1, f_X6_tellRoot_27, if_neg (by decide), f_X6_tellRoot_43, f_X6_tellRoot_44]; rfl
  | 1, _ =>
    rw [if_neg (by decide), MH_ck, gB1_s, q_ofRoot (by omega), gB2_s, r2, f_X6_tellRoot_27, if_pos (by decide)]
    show _ = some ((match (aRt A r).2.1 with | none => -1000 | some d => Int32.ofNat d), _)
    cases hd : (aRt A r).2.1 with
    | none => rw [if_neg (by decide), f_X6_tellRoot_44]
    | some d =>
      have := hdr d hd
      rw [if_pos (Int32.not_lt.mp (i3_ok (by omega)).1), f_X6_tellRoot_43, f_X6_tellRoot_44]
  | 2, _ => rw [if_neg (by decide), MH_ck, gB1_s, q_ofRoot (by omega), gB2_s, r3, f_X6_tellRoot_27, if_neg (by decide), f_X6_tellRoot_43, f_X6_tellRoot_44]; rfl
  | 3, _ =>
    rw [if_pos (by decide), MH_ck, gB1_s, q_current h, gB2_s]
    show _ = some ((if cur A = r then 1 else 0), _)
    have := cur2 A
    by_cases hc : cur A = r
    · rw [if_pos (by rw [hc]), f_X6_tellRoot_27, if_neg (by decide), f_X6_tellRoot_43, f_X6_tellRoot_44, if_pos hc]
    · rw [if_neg (fun e => hc ((i3_inj (by omega) (by omega)).mp e)), f_X6_tellRoot_27, if_neg (by decide), f_X6_tellRoot_43, f_X6_tellRoot_44, if_neg hc]
theorem q_tellReader {A : aG} (h : MR0 (vp V) A) (hF : 40 ≤ F) {k w : Nat} (hk : k < 4) (hw : w < 3) (hq : ∀ q, aRd A k = some q → ∃ D, okD A q.2 D) : f_X6_tellReader κ F (some m) (Int32.ofNat k) (Int32.ofNat w) (MH m V σ) = some (vReader A k w, MH m V σ) := by
  have hr := h.2.2.1 k hk
  unfold vReader
  rw [f_X6_tellReader, f_X6_tellReader_0, MH_ck, gB1_s, q_ofReader0 hk, gB2_s]
  cases hd : aRd A k with
  | none =>
    rw [hd] at hr
    have hr : vp V (454 + 3 * k + 0) = 0 := hr
    rw [hr, if_pos rfl]
  | some q =>
    rw [hd] at hr
    obtain ⟨r1, r2, r3⟩ := hr
    obtain ⟨D, hD⟩ := hq q hd
    rw [r1, if_neg (by decide)]
    match w, hw with
    | 0, _ => rw [if_neg (by decide), MH_ck, gB1_s, i3_s, q_ofReader (by omega), gB2_s, f_X6_tellReader_39, r2]; rfl
    | 1, _ => rw [if_neg (by decide), MH_ck, gB1_s, i3_s, q_ofReader (by omega), gB2_s, f_X6_tellReader_39, r3]; rfl
    | 2, _ => rw [if_pos (by decide), MH_ck, gB1_s, L2, q_ofReader (by omega), gB2_s, MH_ck, gB1_s, r3, q_entriesBy h hF hD, gB2_s, f_X6_tellReader_39]; show _ = some (Int32.ofNat (entsBy A (dirL A q.2)), _); rw [dirL_of hD.2.2.1]
theorem MR_kind {A : aG} {b : Nat} {P : mR} (h : MR0 P A) (hb : b < 32) (hs : aSt A b ≠ 0) : P (14 * b + 1) = pKind (aPg A b) ∧ P (14 * b + 2) = Int32.ofNat (pSize (aPg A b)) := by
  have h1 := (h.1 b hb).2.2.2.2.2 hs
  cases hp : aPg A b with
  | inl l => rw [hp] at h1; exact ⟨h1.1, h1.2.1⟩
  | inr D => rw [hp] at h1; exact ⟨h1.1, h1.2.1⟩
theorem q_tellBed {A : aG} (h : MR0 (vp V) A) (hF : 40 ≤ F) {b w : Nat} (hb : b < 32) (hw : w < 6) : f_X6_tellBed κ F (some m) (Int32.ofNat b) (Int32.ofNat w) (MH m V σ) = some (vBed A b w, MH m V σ) := by
  obtain ⟨r1, r2, r3, r4, r5, r6⟩ := h.1 b hb
  have hz : (Int32.ofNat (aSt A b) = (0 : Int32)) = (aSt A b = 0) := i3_lit (k := 0) (by omega) (by omega)
  have h2 : (Int32.ofNat (aSt A b) = (2 : Int32)) = (aSt A b = 2) := i3_lit (k := 2) (by omega) (by omega)
  have h14 : f_X6_tellBed_14 κ F (some m) (Int32.ofNat b) (Int32.ofNat w) (if aSt A b = 0 then 1 else 0) (MH m V σ) = some (vBed A b w, MH m V σ) := by
    match w, hw with
    | 0, _ => rw [f_X6_tellBed_14, if_pos (by decide), MH_ck, gB1_s, q_of0 hb, gB2_s, r1]; rfl
    | 1, _ =>
      rw [f_X6_tellBed_14, if_neg (by decide), if_pos (by decide)]
      show _ = some ((if aSt A b = 0 then -1000 else pKind (aPg A b)), _)
      by_cases hs : aSt A b = 0
      · rw [if_pos hs, if_neg (by decide), f_X6_tellBed_75, if_pos hs]
      · rw [if_neg hs, if_pos rfl, MH_ck, gB1_s, q_of1 hb, gB2_s, f_X6_tellBed_75, (MR_kind h hb hs).1, if_neg hs]
    | 2, _ =>
      rw [f_X6_tellBed_14, if_neg (by decide), if_neg (by decide), if_pos (by decide)]
      show _ = some ((if aSt A b = 0 then -1000 else Int32.ofNat (pSize (aPg A b))), _)
      by_cases hs : aSt A b = 0
      · rw [if_pos hs, if_neg (by decide), f_X6_tellBed_92, if_pos hs]
      · rw [if_neg hs, if_pos rfl, MH_ck, gB1_s, q_of2 hb, gB2_s, f_X6_tellBed_92, (MR_kind h hb hs).2, if_neg hs]
    | 3, _ =>
      rw [f_X6_tellBed_14, if_neg (by decide), if_neg (by decide), if_neg (by decide), if_pos (by decide), MH_ck, gB1_s, q_of0 hb, gB2_s, r1]
      show _ = some ((if aSt A b = 2 then aFw A b else -1000), _)
      simp only [h2]
      by_cases hs : aSt A b = 2
      · rw [if_pos hs, MH_ck, gB1_s, q_of3 hb, gB2_s, f_X6_tellBed_115, r3 hs, if_pos hs]
      · rw [if_neg hs, f_X6_tellBed_115, if_neg hs]
    | 4, _ =>
      rw [f_X6_tellBed_14, if_neg (by decide), if_neg (by decide), if_neg (by decide), if_neg (by decide), if_pos (by decide), MH_ck, gB1_s, q_canBeDug h (by omega) hb, gB2_s]
      show _ = some ((if digg A b then 1 else 0), _)
      by_cases hd : digg A b = true
      · rw [if_pos hd, if_neg (by decide), f_X6_tellBed_129]
      · rw [if_neg hd, if_pos rfl, f_X6_tellBed_129]
    | 5, _ =>
      rw [f_X6_tellBed_14, if_neg (by decide), if_neg (by decide), if_neg (by decide), if_neg (by decide), if_neg (by decide), MH_ck, gB1_s, q_of4 hb, gB2_s, r4]
      rfl
  rw [f_X6_tellBed, f_X6_tellBed_0, MH_ck, gB1_s, q_of0 hb, gB2_s, r1]
  simp only [hz]
  by_cases hs : aSt A b = 0
  · rw [if_pos hs] at h14
    rw [if_pos hs]
    exact h14
  · rw [if_neg hs] at h14
    rw [if_neg hs]
    exact h14
end Q
