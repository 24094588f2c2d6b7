/-! the component: what it reads -/
theorem need_1000 (A : aG) : need A (-1000) = need A (-1) := by
  have h : ∀ k, k < 4 → ∀ l, stR A (-1000) k l = stR A (-1) k l := fun k hk l => by
    have h1 : ¬ Int32.ofNat k = (-1000 : Int32) := by
      match k, hk with
      | 0, _ => decide
      | 1, _ => decide
      | 2, _ => decide
      | 3, _ => decide
    have h2 : ¬ Int32.ofNat k = (-1 : Int32) := by
      match k, hk with
      | 0, _ => decide
      | 1, _ => decide
      | 2, _ => decide
      | 3, _ => decide
    unfold stR
    cases aRd A k with
    | none => rfl
    | some q =>
      simp only
      rw [if_neg h1, if_neg h2]
  unfold need
  rw [h 3 (by omega), h 2 (by omega), h 1 (by omega), h 0 (by omega)]
/-- the lowest of the best, from above -/
def bstD (A : aG) (f : Option Nat) (b : Nat) : Option Nat := if digg A b then (match f with
    | none => some b
    | some c => if aFw A b ≤ aFw A c then some b else some c) else f
/-- of the beds from b on to 31 -/
def bestD (A : aG) : Nat → Option Nat
  | 0 => none
  | d + 1 => bstD A (bestD A d) (31 - d)
def isB (A : aG) (lo hi : Nat) (o : Option Nat) : Prop := match o with
  | none => ∀ b, lo ≤ b → b < hi → digg A b = false
  | some c => lo ≤ c ∧ c < hi ∧ digg A c = true ∧ ∀ b, lo ≤ b → b < hi → digg A b = true → aFw A c ≤ aFw A b ∧ (aFw A b = aFw A c → c ≤ b)
theorem isB_uniq {A : aG} {lo hi : Nat} {o o' : Option Nat} (h : isB A lo hi o) (h' : isB A lo hi o') : o = o' := by
  cases o with
  | none =>
    cases o' with
    | none => rfl
    | some c => have := h c h'.1 h'.2.1; rw [h'.2.2.1] at this; cases this
  | some c =>
    cases o' with
    | none => have := h' c h.1 h.2.1; rw [h.2.2.1] at this; cases this
    | some c' =>
      obtain ⟨a1, a2, a3, a4⟩ := h
      obtain ⟨b1, b2, b3, b4⟩ := h'
      obtain ⟨x1, x2⟩ := a4 c' b1 b2 b3
      obtain ⟨y1, y2⟩ := b4 c a1 a2 a3
      have e := Int32.le_antisymm x1 y1
      have := x2 e.symm
      have := y2 e
      congr 1
      omega
theorem best_isB (A : aG) : ∀ n, isB A 0 n (best A n)
  | 0 => fun b _ hb => absurd hb (Nat.not_lt_zero _)
  | n + 1 => by
    have ih := best_isB A n
    rw [best_s]
    unfold bst
    by_cases hd : digg A n = true
    · rw [if_pos hd]
      cases hb : best A n with
      | none =>
        rw [hb] at ih
        refine ⟨Nat.zero_le _, Nat.lt_succ_self _, hd, fun b _ hb2 hdb => ?_⟩
        by_cases e : b = n
        · rw [e]; exact ⟨Int32.le_refl _, fun _ => Nat.le_refl _⟩
        · have := ih b (Nat.zero_le _) (by omega); rw [hdb] at this; cases this
      | some c =>
        rw [hb] at ih
        obtain ⟨a1, a2, a3, a4⟩ := ih
        simp only
        by_cases hl : aFw A n < aFw A c
        · rw [if_pos hl]
          refine ⟨Nat.zero_le _, Nat.lt_succ_self _, hd, fun b _ hb2 hdb => ?_⟩
          by_cases e : b = n
          · rw [e]; exact ⟨Int32.le_refl _, fun _ => Nat.le_refl _⟩
          · obtain ⟨x1, x2⟩ := a4 b (Nat.zero_le _) (by omega) hdb
            have hlt := Int32.lt_of_lt_of_le hl x1
            exact ⟨Int32.le_of_lt hlt, fun e2 => by rw [e2] at hlt; exact absurd hlt Int32.lt_irrefl⟩
        · rw [if_neg hl]
          refine ⟨a1, by omega, a3, fun b _ hb2 hdb => ?_⟩
          by_cases e : b = n
          · rw [e]; exact ⟨Int32.not_lt.mp hl, fun _ => by omega⟩
          · exact a4 b (Nat.zero_le _) (by omega) hdb
    · rw [if_neg hd]
      have hdf : digg A n = false := by cases hx : digg A n with | false => rfl | true => exact absurd hx hd
      cases hb : best A n with
      | none =>
        rw [hb] at ih
        intro b _ hb2
        by_cases e : b = n
        · rw [e]; exact hdf
        · exact ih b (Nat.zero_le _) (by omega)
      | some c =>
        rw [hb] at ih
        obtain ⟨a1, a2, a3, a4⟩ := ih
        refine ⟨a1, by omega, a3, fun b _ hb2 hdb => ?_⟩
        by_cases e : b = n
        · rw [e] at hdb; exact absurd hdb hd
        · exact a4 b (Nat.zero_le _) (by omega) hdb
theorem bestD_isB (A : aG) : ∀ d, d ≤ 32 → isB A (32 - d) 32 (bestD A d)
  | 0, _ => fun b h1 h2 => by omega
  | d + 1, hd32 => by
    have ih := bestD_isB A d (by omega)
    rw [bestD]
    have hn : 32 - (d + 1) = 31 - d := by omega
    rw [hn]
    have hr : ∀ b, 31 - d ≤ b → b < 32 → b ≠ 31 - d → 32 - d ≤ b := fun b h1 h2 h3 => by omega
    generalize hnn : 31 - d = n at hr
    have hn32 : n < 32 := by omega
    have hlo : n < 32 - d ∨ True := Or.inr trivial
    unfold bstD
    by_cases hd : digg A n = true
    · rw [if_pos hd]
      cases hb : bestD A d with
      | none =>
        rw [hb] at ih
        refine ⟨Nat.le_refl _, hn32, hd, fun b h1 hb2 hdb => ?_⟩
        by_cases e : b = n
        · rw [e]; exact ⟨Int32.le_refl _, fun _ => Nat.le_refl _⟩
        · have := ih b (hr b h1 hb2 e) hb2; rw [hdb] at this; cases this
      | some c =>
        rw [hb] at ih
        obtain ⟨a1, a2, a3, a4⟩ := ih
        simp only
        by_cases hl : aFw A n ≤ aFw A c
        · rw [if_pos hl]
          refine ⟨Nat.le_refl _, hn32, hd, fun b h1 hb2 hdb => ?_⟩
          by_cases e : b = n
          · rw [e]; exact ⟨Int32.le_refl _, fun _ => Nat.le_refl _⟩
          · obtain ⟨x1, x2⟩ := a4 b (hr b h1 hb2 e) hb2 hdb
            exact ⟨Int32.le_trans hl x1, fun _ => h1⟩
        · rw [if_neg hl]
          have hl2 := Int32.not_le.mp hl
          refine ⟨by omega, a2, a3, fun b h1 hb2 hdb => ?_⟩
          by_cases e : b = n
          · rw [e]; exact ⟨Int32.le_of_lt hl2, fun e2 => by rw [e2] at hl2; exact absurd hl2 Int32.lt_irrefl⟩
          · exact a4 b (hr b h1 hb2 e) hb2 hdb
    · rw [if_neg hd]
      have hdf : digg A n = false := by cases hx : digg A n with | false => rfl | true => exact absurd hx hd
      cases hb : bestD A d with
      | none =>
        rw [hb] at ih
        intro b h1 hb2
        by_cases e : b = n
        · rw [e]; exact hdf
        · exact ih b (hr b h1 hb2 e) hb2
      | some c =>
        rw [hb] at ih
        obtain ⟨a1, a2, a3, a4⟩ := ih
        refine ⟨by omega, a2, a3, fun b h1 hb2 hdb => ?_⟩
        by_cases e : b = n
        · rw [e] at hdb; exact absurd hdb hd
        · exact a4 b (hr b h1 hb2 e) hb2 hdb
theorem bestD_best (A : aG) : bestD A 32 = best A 32 := isB_uniq (bestD_isB A 32 (by omega)) (best_isB A 32)
def negT (o : Option Nat) : Int32 := match o with
  | none => -1000
  | some c => Int32.ofNat c
theorem negT_n {o : Option Nat} (h : ∀ c, o = some c → c < 32) : (negT o = -1000) ↔ o = none := by
  cases o with
  | none => exact ⟨fun _ => rfl, fun _ => rfl⟩
  | some c =>
    have hc := h c rfl
    refine ⟨fun e => ?_, fun e => by cases e⟩
    exfalso
    have e : Int32.ofNat c = (-1000 : Int32) := e
    have h1 := (i3_ok (k := c) (by omega)).1
    rw [e] at h1
    exact h1 (by decide)
theorem bestD_2 {A : aG} {d c : Nat} (h : bestD A d = some c) (hd : d ≤ 32) : c < 32 ∧ digg A c = true := by
  have := bestD_isB A d hd
  rw [h] at this
  exact ⟨this.2.1, this.2.2.1⟩
section C
variable {κ : gK} {B : Nat → Nat} {bd : Nat} {F : Nat} {σ : gS} {ω : Nat → Nat} {t g : Nat} {c : gA} {A : aG}
theorem k_needed (h : GR κ B bd σ ω t g c A) (hF : 8 ≤ F) : f_X3_needed κ F (some g) σ = some (need A (-1), σ) := by
  rw [f_X3_needed, f_X3_needed_0, k_ck h, gB1_s, k_neededWithout h hF, gB2_s, need_1000]
theorem KS_eq (hK : KS κ) {a b : Nat} (ha : a < 3) (hb : b < 3) : κ.2 a = κ.2 b ↔ a = b := by
  obtain ⟨h1, h2, h3⟩ := hK
  match a, b, ha, hb with
  | 0, 0, _, _ => exact ⟨fun _ => rfl, fun _ => rfl⟩
  | 0, 1, _, _ => exact ⟨fun e => absurd e h1, fun e => by cases e⟩
  | 0, 2, _, _ => exact ⟨fun e => absurd e h2, fun e => by cases e⟩
  | 1, 0, _, _ => exact ⟨fun e => absurd e.symm h1, fun e => by cases e⟩
  | 1, 1, _, _ => exact ⟨fun _ => rfl, fun _ => rfl⟩
  | 1, 2, _, _ => exact ⟨fun e => absurd e h3, fun e => by cases e⟩
  | 2, 0, _, _ => exact ⟨fun e => absurd e.symm h2, fun e => by cases e⟩
  | 2, 1, _, _ => exact ⟨fun e => absurd e.symm h3, fun e => by cases e⟩
  | 2, 2, _, _ => exact ⟨fun _ => rfl, fun _ => rfl⟩
theorem k_canBeDug (h : GR κ B bd σ ω t g c A) (hK : KS κ) {b : Nat} (hb : b < 32) : f_X3_canBeDug κ F (some g) (Int32.ofNat b) (need A (-1)) σ = some (if digg A b then 1 else 0, σ) := by
  have h3 := h.2.2.2.2.2.2.2 b hb
  have hk := KS_eq hK h3 (show 2 < 3 by decide)
  rw [f_X3_canBeDug, f_X3_canBeDug_0, k_f1 h, gB1_s, k_st h hb, gB1_s]
  by_cases e : aSt A b = 2
  · rw [if_pos (hk.mpr e), k_f3 h, gB1_s, k_fw h hb, gB1_s]
    by_cases e2 : aFw A b ≤ need A (-1)
    · have hd : digg A b = true := by unfold digg; exact decide_eq_true ⟨e, e2⟩
      rw [if_neg (Int32.not_lt.mpr e2), f_X3_canBeDug_27, gok_z1, gB1_s, if_pos hd]
    · have hd : ¬ digg A b = true := fun hd => by unfold digg at hd; exact e2 (of_decide_eq_true hd).2
      rw [if_pos (Int32.not_le.mp e2), f_X3_canBeDug_26, f_X3_canBeDug_27, gok_z0, gB1_s, if_neg hd]
  · have hd : ¬ digg A b = true := fun hd => by unfold digg at hd; exact e (of_decide_eq_true hd).1
    rw [if_neg (fun e2 => e (hk.mp e2)), f_X3_canBeDug_26, f_X3_canBeDug_27, gok_z0, gB1_s, if_neg hd]
theorem k_diggable9 (h : GR κ B bd σ ω t g c A) (hK : KS κ) : ∀ (d fuel k : Nat), k + d = 32 → d < fuel → f_X3_diggable_9 κ F fuel (some g) (need A (-1)) (Int32.ofNat (cnt (digg A) k)) (Int32.ofNat k) σ = some (Int32.ofNat (cnt (digg A) 32), σ)
  | 0, fuel, k, hk, hf => by
    obtain ⟨f, rfl⟩ : ∃ f, fuel = f + 1 := ⟨fuel - 1, by omega⟩
    have hk : k = 32 := by omega
    subst hk
    rw [f_X3_diggable_9, f_X3_diggable_9b, if_pos (by decide)]
  | d + 1, fuel, k, hk, hf => by
    obtain ⟨f, rfl⟩ : ∃ f, fuel = f + 1 := ⟨fuel - 1, by omega⟩
    have c4 : ¬ ((32 : Int32) ≤ Int32.ofNat k) := by rw [show (32 : Int32) = Int32.ofNat 32 from rfl, i3_le (by omega) (by omega)]; omega
    have ih := k_diggable9 h hK d f (k + 1) (by omega) (by omega)
    rw [cnt_s] at ih
    rw [f_X3_diggable_9, f_X3_diggable_9b, if_neg c4, k_ck h, gB1_s, k_canBeDug h hK (by omega), gB2_s]
    by_cases hd : digg A k = true
    · rw [if_pos hd] at ih
      rw [if_pos hd, if_neg (by decide), f_X3_diggable_30, i3_s, i3_s]
      exact ih
    · rw [if_neg hd] at ih
      rw [if_neg hd, if_pos rfl, f_X3_diggable_30, i3_s, Int32.add_zero]
      exact ih
theorem k_diggable (h : GR κ B bd σ ω t g c A) (hK : KS κ) (hF : 40 ≤ F) : f_X3_diggable κ F (some g) σ = some (Int32.ofNat (cnt (digg A) 32), σ) := by
  rw [f_X3_diggable, f_X3_diggable_0, k_ck h, gB1_s, k_needed h (by omega), gB2_s]
  exact k_diggable9 h hK 32 F 0 (by omega) (by omega)
theorem k_inState14 (h : GR κ B bd σ ω t g c A) (hK : KS κ) {s : Nat} (hs : s < 3) : ∀ (d fuel k : Nat), k + d = 32 → d < fuel → f_X3_inState_14 κ F fuel (κ.2 s) (Int32.ofNat (cnt (fun b => decide (aSt A b = s)) k)) (some (c_st c)) (32 : Int32) (Int32.ofNat k) σ = some (Int32.ofNat (cnt (fun b => decide (aSt A b = s)) 32), σ)
  | 0, fuel, k, hk, hf => by
    obtain ⟨f, rfl⟩ : ∃ f, fuel = f + 1 := ⟨fuel - 1, by omega⟩
    have hk : k = 32 := by omega
    subst hk
    rw [f_X3_inState_14, f_X3_inState_14b, if_pos (by decide)]
  | d + 1, fuel, k, hk, hf => by
    obtain ⟨f, rfl⟩ : ∃ f, fuel = f + 1 := ⟨fuel - 1, by omega⟩
    have c4 : ¬ ((32 : Int32) ≤ Int32.ofNat k) := by rw [show (32 : Int32) = Int32.ofNat 32 from rfl, i3_le (by omega) (by omega)]; omega
    have ih := k_inState14 h hK hs d f (k + 1) (by omega) (by omega)
    have hk3 := KS_eq hK (h.2.2.2.2.2.2.2 k (by omega)) hs
    rw [cnt_s] at ih
    rw [f_X3_inState_14, f_X3_inState_14b, if_neg c4, k_st h (by omega), gB1_s]
    by_cases e : aSt A k = s
    · rw [if_pos (decide_eq_true e)] at ih
      rw [if_pos (hk3.mpr e), f_X3_inState_39, i3_s, i3_s]
      exact ih
    · rw [if_neg (fun e2 => e (of_decide_eq_true e2))] at ih
      rw [if_neg (fun e2 => e (hk3.mp e2)), f_X3_inState_39, i3_s, Int32.add_zero]
      exact ih
theorem k_inState (h : GR κ B bd σ ω t g c A) (hK : KS κ) (hF : 40 ≤ F) {s : Nat} (hs : s < 3) : f_X3_inState κ F (some g) (κ.2 s) σ = some (Int32.ofNat (cnt (fun b => decide (aSt A b = s)) 32), σ) := by
  have hl : gal σ (some (c_st c)) = some (32 : Int32) := by obtain ⟨f, h1, h2⟩ := h.2.1; rw [gal_u, h1.1]; exact gal9_s _ _ _ (by omega)
  rw [f_X3_inState, f_X3_inState_0, k_f1 h, gB1_s, hl, gB1_s]
  exact k_inState14 h hK hs 32 F 0 (by omega) (by omega)
theorem k_next17 (h : GR κ B bd σ ω t g c A) (hK : KS κ) : ∀ (r fuel d : Nat), r + d = 32 → r < fuel → f_X3_nextBed_17 κ F fuel (some g) (need A (-1)) (negT (bestD A d)) (negT (wld A d)) (prd r) σ = some (negT (next A), σ)
  | 0, fuel, d, hd, hf => by
    obtain ⟨f, rfl⟩ : ∃ f, fuel = f + 1 := ⟨fuel - 1, by omega⟩
    have hd : d = 32 := by omega
    subst hd
    have hlt : ∀ b, bestD A 32 = some b → b < 32 := fun b hb => (bestD_2 hb (by omega)).1
    rw [f_X3_nextBed_17, f_X3_nextBed_17b, if_pos (by decide)]
    unfold next wild
    by_cases e : bestD A 32 = none
    · rw [if_pos ((negT_n hlt).mpr e), f_X3_nextBed_112, ← bestD_best, e]
      rfl
    · rw [if_neg (fun e2 => e ((negT_n hlt).mp e2)), f_X3_nextBed_112, ← bestD_best]
      cases hx : bestD A 32 with
      | none => exact absurd hx e
      | some b => rfl
  | r + 1, fuel, d, hd, hf => by
    obtain ⟨f, rfl⟩ : ∃ f, fuel = f + 1 := ⟨fuel - 1, by omega⟩
    have ih := k_next17 h hK r f (d + 1) (by omega) (by omega)
    have hr : 31 - d = r := by omega
    rw [bestD, wld, hr] at ih
    have hk0 := KS_eq hK (h.2.2.2.2.2.2.2 r (by omega)) (show 0 < 3 by decide)
    have hp : ¬ (prd (r + 1) < 0) := (i3_ok (show r < 2147483648 by omega)).1
    have hpr : prd (r + 1) = Int32.ofNat r := rfl
    have hpd : Int32.ofNat r + (-1 : Int32) = prd r := prd_s r (by omega)
    have hlt : ∀ b, bestD A d = some b → b < 32 := fun b hb => (bestD_2 hb (by omega)).1
    have h41 : ∀ w : Int32, f_X3_nextBed_41 κ F (f_X3_nextBed_17 κ F f) (some g) (need A (-1)) (negT (bestD A d)) (Int32.ofNat r) w σ = f_X3_nextBed_17 κ F f (some g) (need A (-1)) (negT (bstD A (bestD A d) r)) w (prd r) σ := by
      intro w
      rw [f_X3_nextBed_41, k_ck h, gB1_s, k_canBeDug h hK (by omega), gB2_s]
      unfold bstD
      by_cases hdg : digg A r = true
      · rw [if_pos hdg, if_neg (by decide), if_pos hdg]
        cases hx : bestD A d with
        | none => rw [if_pos (show negT none = (-1000 : Int32) from rfl), f_X3_nextBed_75, f_X3_nextBed_80, if_neg (by decide), f_X3_nextBed_93, hpd]; rfl
        | some e =>
          have he := hlt e hx
          have hne : ¬ negT (some e) = (-1000 : Int32) := fun e2 => by have := (negT_n (o := some e) (fun c hc => by cases hc; exact he)).mp e2; cases this
          rw [if_neg hne, k_f3 h, gB1_s, k_fw h (by omega), gB1_s, gB1_s, show negT (some e) = Int32.ofNat e from rfl, k_fw h he, gB1_s]
          simp only
          by_cases hl : aFw A r ≤ aFw A e
          · rw [if_neg (Int32.not_lt.mpr hl), if_pos hl, f_X3_nextBed_75, f_X3_nextBed_80, if_neg (by decide), f_X3_nextBed_93, hpd]; rfl
          · rw [if_pos (Int32.not_le.mp hl), if_neg hl, f_X3_nextBed_79, f_X3_nextBed_80, if_pos rfl, f_X3_nextBed_93, hpd]; rfl
      · rw [if_neg hdg, if_pos rfl, if_neg hdg, f_X3_nextBed_79, f_X3_nextBed_80, if_pos rfl, f_X3_nextBed_93, hpd]
    rw [f_X3_nextBed_17, f_X3_nextBed_17b, if_neg hp, k_f1 h, gB1_s, hpr, k_st h (by omega), gB1_s]
    by_cases hs : aSt A r = 0
    · rw [if_pos (hk0.mpr hs), h41]
      rw [if_pos hs] at ih
      exact ih
    · rw [if_neg (fun e => hs (hk0.mp e)), h41]
      rw [if_neg hs] at ih
      exact ih
theorem k_nextBed (h : GR κ B bd σ ω t g c A) (hK : KS κ) (hF : 40 ≤ F) : f_X3_nextBed κ F (some g) σ = some (negT (next A), σ) := by
  rw [f_X3_nextBed, f_X3_nextBed_0, k_ck h, gB1_s, k_needed h (by omega), gB2_s]
  exact k_next17 h hK 32 F 0 (by omega) (by omega)
/-! pages -/
theorem gcm_u (σ : gS) (a : Nat) (cs : List Nat) : gcm σ (some a) cs = (match σ.1 a with
  | some (.inr o) => if o.1 ∈ cs then some () else none
  | _ => none) := rfl
theorem PG_cm {a : Nat} {p : Pg} (h : PG κ σ ω a p) : gcm σ (some a) [2, 3] = some () := by
  cases p with
  | inl l => obtain ⟨ka, va, fk, fv, h1, _⟩ := h; rw [gcm_u, h1.1]; rfl
  | inr D => obtain ⟨la, f, h1, _⟩ := h; rw [gcm_u, h1.1]; rfl
theorem vls_fnd {L : List mE} {b : Nat} {o : Option Nat} (h : vls L b = some o) : (fnd b L).elim none (fun x => x.2.2) = o := by
  unfold vls at h
  cases hf : fnd b L with
  | none => rw [hf] at h; cases h
  | some x => rw [hf] at h; cases h; rfl
theorem k_page (h : GR κ B bd σ ω t g c A) (hB : BD κ B bd σ ω) (hF : 64 ≤ F) {b : Nat} (hb : b < 32) (hs : aSt A b ≠ 0) : ∃ a, f_X3_page κ F (some g) (Int32.ofNat b) σ = some (some a, σ) ∧ PG κ σ ω a (aPg A b) := by
  obtain ⟨L, h1, h2⟩ := h.2.2.2.2.2.1
  have h3 := h2 b hb
  rw [if_neg hs] at h3
  obtain ⟨a, a1, a2⟩ := h3
  have hck : gck σ (some (c_pg c)) 10 = some () := by obtain ⟨tb, ks, md, th, n, hm, _⟩ := h1; rw [gck_u, hm.1]; rfl
  refine ⟨a, ?_, a2⟩
  rw [f_X3_page, f_X3_page_0, k_f0 h, gB1_s, k_f2 h, gB1_s, k_bd hB hb, gB1_s, hck, gB1_s, p_get hF hB.1 h1 (k_bdc hB hb) hb, gB2_s, vls_fnd a1, PG_cm a2, gB1_s]
theorem k_directory (h : GR κ B bd σ ω t g c A) (hB : BD κ B bd σ ω) (hF : 64 ≤ F) {d : Nat} {D : List Nat} (hd : d < 32) (hs : aSt A d ≠ 0) (hp : aPg A d = .inr D) : ∃ a, f_X3_directory κ F (some g) (Int32.ofNat d) σ = some (some a, σ) ∧ PG κ σ ω a (.inr D) := by
  obtain ⟨a, a1, a2⟩ := k_page (F := F) h hB hF hd hs
  rw [hp] at a2
  refine ⟨a, ?_, a2⟩
  obtain ⟨la, f, h1, _⟩ := a2
  have i1 : gio σ (some a) [3] [2] = some 1 := by rw [gio_u, h1.1]; rfl
  have i2 : gcc σ (some a) 3 = some () := by rw [gcc_u, h1.1]; rfl
  rw [f_X3_directory, f_X3_directory_0, k_ck h, gB1_s, a1, gB2_s, i1, gB1_s, if_neg (by decide), i2, gB1_s]
theorem k_leaf (h : GR κ B bd σ ω t g c A) (hB : BD κ B bd σ ω) (hF : 64 ≤ F) {d : Nat} {l : List (Int32 × Int32)} (hd : d < 32) (hs : aSt A d ≠ 0) (hp : aPg A d = .inl l) : ∃ a, f_X3_leaf κ F (some g) (Int32.ofNat d) σ = some (some a, σ) ∧ PG κ σ ω a (.inl l) := by
  obtain ⟨a, a1, a2⟩ := k_page (F := F) h hB hF hd hs
  rw [hp] at a2
  refine ⟨a, ?_, a2⟩
  obtain ⟨ka, va, fk, fv, h1, _⟩ := a2
  have i1 : gio σ (some a) [2] [3] = some 1 := by rw [gio_u, h1.1]; rfl
  have i2 : gcc σ (some a) 2 = some () := by rw [gcc_u, h1.1]; rfl
  rw [f_X3_leaf, f_X3_leaf_0, k_ck h, gB1_s, a1, gB2_s, i1, gB1_s, if_neg (by decide), i2, gB1_s]
/-- a directory's row -/
theorem PG_dir {a : Nat} {D : List Nat} (h : PG κ σ ω a (.inr D)) (hl : D.length < 1000) : ∃ la, gfR σ (some a) 3 0 = some (some la) ∧ gal σ (some la) = some (Int32.ofNat D.length) ∧ (∀ i, i < D.length → gaI σ (some la) 0 (Int32.ofNat i) = some (Int32.ofNat (D.getD i 0))) ∧ gck σ (some a) 3 = some () := by
  obtain ⟨la, f, h1, h2, h3⟩ := h
  refine ⟨la, by rw [gfR_u, h1.1]; rfl, by rw [gal_u, h2.1]; exact gal9_s _ _ _ (by omega), fun i hi => ?_, by rw [gck_u, h1.1]; rfl⟩
  rw [gaI_u, h2.1, ← h3 i hi]
  exact gai9_s hi (by omega)
theorem PG_leaf {a : Nat} {l : List (Int32 × Int32)} (h : PG κ σ ω a (.inl l)) (hl : l.length < 1000) : ∃ ka va, gfR σ (some a) 2 0 = some (some ka) ∧ gfR σ (some a) 2 1 = some (some va) ∧ gal σ (some ka) = some (Int32.ofNat l.length) ∧ gal σ (some va) = some (Int32.ofNat l.length) ∧
    (∀ i, i < l.length → gaI σ (some ka) 0 (Int32.ofNat i) = some (l.getD i (0, 0)).1 ∧ gaI σ (some va) 0 (Int32.ofNat i) = some (l.getD i (0, 0)).2) ∧ gck σ (some a) 2 = some () := by
  obtain ⟨ka, va, fk, fv, h1, h2, h3, h4⟩ := h
  refine ⟨ka, va, by rw [gfR_u, h1.1]; rfl, by rw [gfR_u, h1.1]; rfl, by rw [gal_u, h2.1]; exact gal9_s _ _ _ (by omega), by rw [gal_u, h3.1]; exact gal9_s _ _ _ (by omega), fun i hi => ⟨?_, ?_⟩, by rw [gck_u, h1.1]; rfl⟩
  · rw [gaI_u, h2.1, ← (h4 i hi).1]
    exact gai9_s hi (by omega)
  · rw [gaI_u, h3.1, ← (h4 i hi).2]
    exact gai9_s hi (by omega)
theorem okL_len {A : aG} {D : List Nat} {d : Nat} (hD : okD A d D) {b : Nat} (hb : b ∈ D) : b < 32 ∧ aSt A b ≠ 0 ∧ aPg A b = .inl (leafL A b) ∧ leafL A b ≠ [] := by
  obtain ⟨b1, b2, l, b3, b4⟩ := hD.2.2.2 b hb
  rw [leafL_of b3]
  exact ⟨b1, b2, b3, b4⟩
theorem k_place5 (h : GR κ B bd σ ω t g c A) (hB : BD κ B bd σ ω) (hF : 64 ≤ F) {d a : Nat} {D : List Nat} (hD : okD A d D) (hl : D.length < 1000) (hll : ∀ b ∈ D, (leafL A b).length < 1000) (hp : PG κ σ ω a (.inr D)) (key : Int32) : ∀ (r fuel k : Nat), k + r = D.length → 1 ≤ k → r < fuel →
    f_X3_placeOf_5 κ F fuel (some g) (some a) key (Int32.ofNat (plc A D key k)) (Int32.ofNat k) σ = some (Int32.ofNat (plc A D key D.length), σ)
  | 0, fuel, k, hk, h1, hf => by
    obtain ⟨f, rfl⟩ : ∃ f, fuel = f + 1 := ⟨fuel - 1, by omega⟩
    obtain ⟨la, d1, d2, d3, d4⟩ := PG_dir hp hl
    have hk : k = D.length := by omega
    rw [f_X3_placeOf_5, f_X3_placeOf_5b, d1, gB1_s, d2, gB1_s, hk, if_pos (Int32.le_refl _)]
  | r + 1, fuel, k, hk, h1, hf => by
    obtain ⟨f, rfl⟩ : ∃ f, fuel = f + 1 := ⟨fuel - 1, by omega⟩
    obtain ⟨la, d1, d2, d3, d4⟩ := PG_dir hp hl
    have ih := k_place5 h hB hF hD hl hll hp key r f (k + 1) (by omega) (by omega) (by omega)
    have hm : D.getD k 0 ∈ D := getD_mem (by omega)
    obtain ⟨b1, b2, b3, b4⟩ := okL_len hD hm
    obtain ⟨e, e1, e2⟩ := k_leaf (F := F) h hB hF b1 b2 b3
    obtain ⟨ka, va, l1, l2, l3, l4, l5, l6⟩ := PG_leaf e2 (hll _ hm)
    have hk0 : gaI σ (some ka) 0 (0 : Int32) = some (fkey A (D.getD k 0)) := (l5 0 (List.length_pos_iff.mpr b4)).1
    rw [plc] at ih
    rw [f_X3_placeOf_5, f_X3_placeOf_5b, d1, gB1_s, d2, gB1_s, if_neg (by rw [i3_le (by omega) (by omega)]; omega), gB1_s, d3 k (by omega), gB1_s, k_ck h, gB1_s, e1, gB2_s, l1, gB1_s, hk0, gB1_s]
    by_cases hc : fkey A (D.getD k 0) ≤ key
    · rw [if_pos hc] at ih
      rw [if_neg (Int32.not_lt.mpr hc), f_X3_placeOf_41, i3_s]
      exact ih
    · rw [if_neg hc] at ih
      rw [if_pos (Int32.not_le.mp hc), f_X3_placeOf_41, i3_s]
      exact ih
theorem k_placeOf (h : GR κ B bd σ ω t g c A) (hB : BD κ B bd σ ω) (hF : 64 ≤ F) {d a : Nat} {D : List Nat} (hD : okD A d D) (hl : D.length ≤ 6) (hll : ∀ b ∈ D, (leafL A b).length < 1000) (hp : PG κ σ ω a (.inr D)) (key : Int32) :
    f_X3_placeOf κ F (some g) (some a) key σ = some (Int32.ofNat (plc A D key D.length), σ) := by
  rw [f_X3_placeOf, f_X3_placeOf_0]
  cases hx : D with
  | nil =>
    subst hx
    obtain ⟨f, rfl⟩ : ∃ f, F = f + 1 := ⟨F - 1, by omega⟩
    obtain ⟨la, d1, d2, d3, d4⟩ := PG_dir hp (by decide)
    rw [f_X3_placeOf_5, f_X3_placeOf_5b, d1, gB1_s, d2, gB1_s, if_pos (by decide)]
    rfl
  | cons x D' =>
    rw [← hx]
    have hlen : D.length = D'.length + 1 := by rw [hx]; rfl
    have h1 : plc A D key 1 = 0 := by rw [plc]; split <;> rfl
    have := k_place5 (F := F) h hB hF hD (by omega) hll hp key D'.length F 1 (by omega) (by omega) (by omega)
    rw [h1] at this
    exact this
/-! a leaf -/
theorem k_lplace2 {a : Nat} {l : List (Int32 × Int32)} (hp : PG κ σ ω a (.inl l)) (hl : l.length < 1000) (key : Int32) : ∀ (L2 L1 : List (Int32 × Int32)) (fuel : Nat), l = L1 ++ L2 → pof L1 key = L1.length → (∀ q ∈ L1, q.1 < key) → L2.length < fuel → f_X9_placeOf_2 κ F fuel (some a) key (Int32.ofNat L1.length) σ = some (Int32.ofNat (L1.length + pof L2 key), σ)
  | [], L1, fuel, hl2, h1, h2, hf => by
    obtain ⟨f, rfl⟩ : ∃ f, fuel = f + 1 := ⟨fuel - 1, by omega⟩
    obtain ⟨ka, va, l1, l2, l3, l4, l5, l6⟩ := PG_leaf hp hl
    rw [List.append_nil] at hl2
    rw [f_X9_placeOf_2, f_X9_placeOf_2b, l1, gB1_s, l3, gB1_s, hl2, if_pos (Int32.le_refl _), f_X9_placeOf_27]
    rfl
  | x :: L2, L1, fuel, hl2, h1, h2, hf => by
    obtain ⟨f, rfl⟩ : ∃ f, fuel = f + 1 := ⟨fuel - 1, by omega⟩
    obtain ⟨ka, va, l1, l2, l3, l4, l5, l6⟩ := PG_leaf hp hl
    have hlen : l.length = L1.length + (L2.length + 1) := by rw [hl2, List.length_append, List.length_cons]
    have hg : l.getD L1.length (0, 0) = x := by rw [hl2, List.getD_eq_getElem?_getD, List.getElem?_append_right (Nat.le_refl _), Nat.sub_self]; rfl
    have hk := (l5 L1.length (by omega)).1
    rw [hg] at hk
    rw [f_X9_placeOf_2, f_X9_placeOf_2b, l1, gB1_s, l3, gB1_s, if_neg (by rw [i3_le (by omega) (by omega)]; omega), gB1_s, hk, gB1_s, pof_cons]
    by_cases hc : key ≤ x.1
    · rw [if_pos hc, if_pos hc, f_X9_placeOf_27]
      rfl
    · rw [if_neg hc, if_neg hc, i3_s]
      have ih := k_lplace2 hp hl key L2 (L1 ++ [x]) f (by rw [hl2, List.append_assoc]; rfl) (by
          unfold pof
          rw [List.findIdx_eq_length]
          intro q hq
          rcases List.mem_append.mp hq with hq | hq
          · simp [Int32.not_le.mpr (h2 q hq)]
          · have : q = x := by simpa using hq
            rw [this]; simp [hc]) (fun q hq => by
          rcases List.mem_append.mp hq with hq | hq
          · exact h2 q hq
          · have : q = x := by simpa using hq
            rw [this]; exact Int32.not_le.mp hc) (by simpa using hf)
      rw [List.length_append, List.length_singleton] at ih
      rw [ih]
      rw [show L1.length + 1 + pof L2 key = L1.length + (pof L2 key + 1) by omega]
theorem k_lplace {a : Nat} {l : List (Int32 × Int32)} (hp : PG κ σ ω a (.inl l)) (hl : l.length ≤ 5) (hF : 64 ≤ F) (key : Int32) : f_X9_placeOf κ F (some a) key σ = some (Int32.ofNat (pof l key), σ) := by
  rw [f_X9_placeOf, f_X9_placeOf_0]
  have := k_lplace2 (F := F) hp (by omega) key l [] F rfl rfl (fun q hq => by cases hq) (by omega)
  rw [show ([] : List (Int32 × Int32)).length + pof l key = pof l key from Nat.zero_add _] at this
  exact this
theorem k_has {a : Nat} {l : List (Int32 × Int32)} (hp : PG κ σ ω a (.inl l)) (hl : l.length ≤ 5) (hs : srt l) (hF : 64 ≤ F) (key : Int32) : f_X9_has κ F (some a) key σ = some (if (lkp l key).isSome then 1 else 0, σ) := by
  obtain ⟨ka, va, l1, l2, l3, l4, l5, l6⟩ := PG_leaf hp (by omega)
  have hple := pof_le l key
  rw [f_X9_has, f_X9_has_0, l6, gB1_s, k_lplace hp hl hF, gB2_s, l1, gB1_s, l3, gB1_s]
  cases hk : lkp l key with
  | some i =>
    have hi := lkp_some hk
    have hpo := pof_found hs hk
    rw [hpo, if_neg (by rw [i3_le (by omega) (by omega)]; omega), gB1_s, (l5 i hi.1).1, gB1_s, hi.2, if_pos rfl, f_X9_has_30, gok_z1, gB1_s]
    rfl
  | none =>
    have hn := lkp_none.mp hk
    by_cases c1 : l.length ≤ pof l key
    · rw [if_pos ((i3_le (by omega) (by omega)).mpr c1), f_X9_has_29, f_X9_has_30, gok_z0, gB1_s]
      rfl
    · rw [if_neg (by rw [i3_le (by omega) (by omega)]; exact c1), gB1_s, (l5 _ (by omega)).1, gB1_s, if_neg (hn _ (getD_mem (by omega))), f_X9_has_29, f_X9_has_30, gok_z0, gB1_s]
      rfl
/-- what is known of a version that can be read -/
def okV (A : aG) (d : Nat) : Prop := okD A d (dirL A d) ∧ (dirL A d).length ≤ 6 ∧ ∀ b ∈ dirL A d, okL (leafL A b)
theorem okV_of {A : aG} {d : Nat} (h : VR A d) (hs : ∀ b, rch A d b → aSt A b ≠ 0) : okV A d := by
  refine ⟨VR_okD h hs, ?_, ?_⟩
  · obtain ⟨h1, D, h2, h3, h4, h5⟩ := h
    rw [dirL_of h2]; exact h3
  · obtain ⟨h1, D, h2, h3, h4, h5⟩ := h
    rw [dirL_of h2]
    intro b hb
    obtain ⟨b1, l, b2, b3⟩ := h5 b hb
    rw [leafL_of b2]; exact b3
theorem okV_ll {A : aG} {d : Nat} (h : okV A d) : ∀ b ∈ dirL A d, (leafL A b).length < 1000 := fun b hb => by have := (h.2.2 b hb).2.1; omega
theorem valBy_nil {A : aG} {d : Nat} {key : Int32} (h : dirL A d = []) : valBy A d key = -1000 := by unfold valBy; rw [h]
theorem valBy_ne {A : aG} {d : Nat} {key : Int32} (h : dirL A d ≠ []) : valBy A d key = (match lkp (leafL A ((dirL A d).getD (plc A (dirL A d) key (dirL A d).length) 0)) key with | none => -1000 | some i => ((leafL A ((dirL A d).getD (plc A (dirL A d) key (dirL A d).length) 0)).getD i (0, 0)).2) := by
  unfold valBy
  cases hx : dirL A d with
  | nil => exact absurd hx h
  | cons x D => rfl
theorem k_valueBy (h : GR κ B bd σ ω t g c A) (hB : BD κ B bd σ ω) (hF : 64 ≤ F) {d : Nat} (hV : okV A d) (key : Int32) : f_X3_valueBy κ F (some g) (Int32.ofNat d) key σ = some (valBy A d key, σ) := by
  obtain ⟨hD, h6, hL⟩ := hV
  obtain ⟨a, a1, a2⟩ := k_directory (F := F) h hB hF hD.1 hD.2.1 hD.2.2.1
  obtain ⟨la, d1, d2, d3, d4⟩ := PG_dir a2 (by omega)
  rw [f_X3_valueBy, f_X3_valueBy_0, k_ck h, gB1_s, a1, gB2_s, d1, gB1_s, d2, gB1_s]
  cases hx : dirL A d with
  | nil => rw [if_pos (by decide), valBy_nil hx]
  | cons x D' =>
    rw [valBy_ne (by rw [hx]; simp), ← hx]
    have hlen : 0 < (dirL A d).length := by rw [hx]; simp
    have hpl := plc_lt (A := A) (D := dirL A d) (key := key) _ hlen
    have hm : (dirL A d).getD (plc A (dirL A d) key (dirL A d).length) 0 ∈ dirL A d := getD_mem hpl
    obtain ⟨b1, b2, b3, b4⟩ := okL_len hD hm
    have hok := hL _ hm
    obtain ⟨e, e1, e2⟩ := k_leaf (F := F) h hB hF b1 b2 b3
    obtain ⟨ka, va, l1, l2, l3, l4, l5, l6⟩ := PG_leaf e2 (by have := hok.2.1; omega)
    rw [if_neg (show ¬ Int32.ofNat (dirL A d).length = (0 : Int32) from fun e => by have := (i3_inj (b := 0) (by omega) (by omega)).mp e; omega), gB1_s, k_ck h, gB1_s, k_placeOf h hB hF hD h6 (fun b hb => by have := (hL b hb).2.1; omega) a2 key, gB2_s, d3 _ hpl, gB1_s, k_ck h, gB1_s, e1, gB2_s, l6, gB1_s, k_has e2 (by have := hok.2.1; omega) hok.2.2 hF, gB2_s]
    cases hk : lkp (leafL A ((dirL A d).getD (plc A (dirL A d) key (dirL A d).length) 0)) key with
    | none => rw [if_neg (show ¬ ((none : Option Nat).isSome = true) by decide), if_pos rfl, f_X3_valueBy_62]
    | some i =>
      have hi := lkp_some hk
      rw [if_pos (show ((some i : Option Nat).isSome = true) from rfl), if_neg (by decide), l2, gB1_s, l6, gB1_s, k_lplace e2 (by have := hok.2.1; omega) hF, gB2_s, pof_found hok.2.2 hk, (l5 i hi.1).2, gB1_s, f_X3_valueBy_62]
theorem psize_leaf {a : Nat} {l : List (Int32 × Int32)} (hp : PG κ σ ω a (.inl l)) (hl : l.length < 1000) : f_psize κ F (some a) σ = some (Int32.ofNat l.length, σ) := by
  obtain ⟨ka, va, l1, l2, l3, l4, l5, l6⟩ := PG_leaf hp hl
  unfold f_psize
  rw [l6]
  simp only
  rw [f_X9_size, f_X9_size_0, l1, gB1_s, l3, gB1_s]
theorem psize_dir {a : Nat} {D : List Nat} (hp : PG κ σ ω a (.inr D)) (hl : D.length < 1000) : f_psize κ F (some a) σ = some (Int32.ofNat D.length, σ) := by
  obtain ⟨la, d1, d2, d3, d4⟩ := PG_dir hp hl
  obtain ⟨la', f, h1, _⟩ := hp
  have hn : gck σ (some a) 2 = none := by rw [gck_u, h1.1]; rfl
  unfold f_psize
  rw [hn]
  simp only
  rw [d4, gB1_s, f_X5_size, f_X5_size_0, d1, gB1_s, d2, gB1_s]
theorem k_entries18 (h : GR κ B bd σ ω t g c A) (hB : BD κ B bd σ ω) (hF : 64 ≤ F) {d la : Nat} (hV : okV A d) (d3 : ∀ i, i < (dirL A d).length → gaI σ (some la) 0 (Int32.ofNat i) = some (Int32.ofNat ((dirL A d).getD i 0))) : ∀ (D2 D1 : List Nat) (fuel : Nat), dirL A d = D1 ++ D2 → D2.length < fuel → f_X3_entriesBy_18 κ F fuel (some g) (Int32.ofNat (entsBy A D1)) (some la) (Int32.ofNat (dirL A d).length) (Int32.ofNat D1.length) σ = some (Int32.ofNat (entsBy A (dirL A d)), σ)
  | [], D1, fuel, hl, hf => by
    obtain ⟨f, rfl⟩ : ∃ f, fuel = f + 1 := ⟨fuel - 1, by omega⟩
    rw [List.append_nil] at hl
    rw [f_X3_entriesBy_18, f_X3_entriesBy_18b, hl, if_pos (Int32.le_refl _)]
  | x :: D2, D1, fuel, hl, hf => by
    obtain ⟨f, rfl⟩ : ∃ f, fuel = f + 1 := ⟨fuel - 1, by omega⟩
    have hlen : (dirL A d).length = D1.length + (D2.length + 1) := by rw [hl, List.length_append, List.length_cons]
    have h6 := hV.2.1
    have hg : (dirL A d).getD D1.length 0 = x := by rw [hl, List.getD_eq_getElem?_getD, List.getElem?_append_right (Nat.le_refl _), Nat.sub_self]; rfl
    have hm : x ∈ dirL A d := by rw [hl]; exact List.mem_append_right _ List.mem_cons_self
    obtain ⟨b1, b2, b3, b4⟩ := okL_len hV.1 hm
    have hok := hV.2.2 x hm
    obtain ⟨e, e1, e2⟩ := k_page (F := F) h hB hF b1 b2
    rw [b3] at e2
    have ih := k_entries18 h hB hF hV d3 D2 (D1 ++ [x]) f (by rw [hl, List.append_assoc]; rfl) (by simpa using hf)
    have he : entsBy A (D1 ++ [x]) = entsBy A D1 + (leafL A x).length := by unfold entsBy; rw [List.map_append, List.sum_append]; simp
    rw [List.length_append, List.length_singleton, he] at ih
    rw [f_X3_entriesBy_18, f_X3_entriesBy_18b, if_neg (by rw [i3_le (by omega) (by omega)]; omega), d3 _ (by omega), gB1_s, hg, k_ck h, gB1_s, e1, gB2_s, psize_leaf e2 (by have := hok.2.1; omega), gB2_s, i3_add, i3_s]
    exact ih
theorem k_entriesBy (h : GR κ B bd σ ω t g c A) (hB : BD κ B bd σ ω) (hF : 64 ≤ F) {d : Nat} (hV : okV A d) : f_X3_entriesBy κ F (some g) (Int32.ofNat d) σ = some (Int32.ofNat (entsBy A (dirL A d)), σ) := by
  obtain ⟨a, a1, a2⟩ := k_directory (F := F) h hB hF hV.1.1 hV.1.2.1 hV.1.2.2.1
  obtain ⟨la, d1, d2, d3, d4⟩ := PG_dir a2 (by have := hV.2.1; omega)
  have h6 := hV.2.1
  rw [f_X3_entriesBy, f_X3_entriesBy_0, k_ck h, gB1_s, a1, gB2_s, d1, gB1_s, d2, gB1_s]
  exact k_entries18 (F := F) h hB hF hV d3 (dirL A d) [] F rfl (by omega)
theorem WF_vnow {n : Nat} {A : aG} (hw : WF n A) : okV A (nowD A) := okV_of hw.1.2.2.2.2.2.1 (fun b hb => by rw [(hw.1.2.2.2.2.2.2.1 b hb).1]; decide)
theorem WF_vrd {n : Nat} {A : aG} (hw : WF n A) {k : Nat} {q : Int32 × Nat} (hk : k < 4) (hq : aRd A k = some q) : okV A q.2 := by
  obtain ⟨a1, a2, a3⟩ := hw.1.2.2.2.2.2.2.2 k q hk hq
  refine okV_of a2 (fun b hb => ?_)
  rcases (a3 b hb).1 with e | e
  · rw [e]; decide
  · rw [e.1]; decide
theorem WF_vdr {n : Nat} {A : aG} (hw : WF n A) {d : aD} (hd : aDr A = some d) : okV A d.2.2 := by
  obtain ⟨g1, g2, g3⟩ := hw.2 d hd
  exact okV_of g1 (fun b hb => by rw [(g2 b hb).1]; decide)
end C
