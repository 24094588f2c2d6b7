/-! the reference: the steps of put and remove -/
section Q
variable {κ : gK} {F : Nat} {m : Nat} {V : mV} {σ : gS}
theorem q_setEntry (hm : κ.1 ≤ m) {b i : Nat} {k v : Int32} (h : 14 * b + (6 + 2 * i + 1) < 470) : f_X6_setEntry κ F (some m) (Int32.ofNat b) (Int32.ofNat i) k v (MH m V σ) = some ((), MH m (wp V (va_up (va_up (vp V) (14 * b + (6 + 2 * i)) k) (14 * b + (6 + 2 * i + 1)) v)) σ) := by
  have hx : (6 : Int32) + ((2 : Int32) * Int32.ofNat i) = Int32.ofNat (6 + 2 * i) := by rw [L2, L6, i3_mul, i3_add]
  rw [f_X6_setEntry, f_X6_setEntry_0, MH_ck, gB1_s, hx, q_lay hm (by omega), gB2_s, MH_ck, gB1_s, i3_s, q_lay hm (by omega), gB2_s, wp_wp]
  rfl
theorem q_doAbort {A : aG} (h : MR (vp V) A) (hm : κ.1 ≤ m) (hF : 40 ≤ F) : (isDr A = false → f_X6_doAbort κ F (some m) (MH m V σ) = some (0, MH m (wco V 1) σ)) ∧
    (isDr A = true → ∃ P', f_X6_doAbort κ F (some m) (MH m V σ) = some (Int32.ofNat (cnt (isNew A) 32), MH m (wp V P') σ) ∧ MR P' (dropA A)) := by
  have hg : gaI (MH m V σ) (some (m + 1)) 0 (466 : Int32) = some (vp V 466) := MH_gvp (k := 466) rfl (by omega)
  have h6 := q_p466 h
  constructor
  · intro hd
    rw [f_X6_doAbort, f_X6_doAbort_0, MH_rvp, gB1_s, hg, gB1_s, h6, hd, if_pos (by decide), MH_ck, gB1_s, q_refuse hm, gB2_s, f_X6_doAbort_23]
  · intro hd
    obtain ⟨P', q1, q2⟩ := q_drops (κ := κ) (F := F) (m := m) (V := V) (σ := σ) hm hF h
    refine ⟨P', ?_, q2⟩
    rw [f_X6_doAbort, f_X6_doAbort_0, MH_rvp, gB1_s, hg, gB1_s, h6, hd, if_neg (by decide), MH_ck, gB1_s, q1, gB2_s, f_X6_doAbort_23]
/-- the first closed reader from k on -/
def fcl (A : aG) (k : Nat) : Nat → Nat
  | 0 => k
  | d + 1 => if (aRd A k).isSome then fcl A (k + 1) d else k
def openA (A : aG) (k : Nat) : aG := (A.1, A.2.1, va_up A.2.2.1 k (some (nowC A, nowD A)), A.2.2.2)
theorem fcl_le (A : aG) : ∀ (d k : Nat), fcl A k d ≤ k + d
  | 0, k => Nat.le_refl _
  | d + 1, k => by
    rw [fcl]
    split
    · have := fcl_le A d (k + 1); omega
    · omega
theorem q_doOpen2 {A : aG} (h : MR (vp V) A) : ∀ (d fuel k : Nat), k + d = 4 → d < fuel → f_X6_doOpen_2 κ F fuel (some m) (Int32.ofNat k) (MH m V σ) = f_X6_doOpen_23 κ F (some m) (Int32.ofNat (fcl A k d)) (MH m V σ)
  | 0, fuel, k, hk, hf => by
    obtain ⟨f, rfl⟩ : ∃ f, fuel = f + 1 := ⟨fuel - 1, by omega⟩
    have hk : k = 4 := by omega
    subst hk
    rw [f_X6_doOpen_2, f_X6_doOpen_2b, if_pos (by decide)]
    rfl
  | d + 1, fuel, k, hk, hf => by
    obtain ⟨f, rfl⟩ : ∃ f, fuel = f + 1 := ⟨fuel - 1, by omega⟩
    have c4 : ¬ ((4 : Int32) ≤ Int32.ofNat k) := by rw [L4, i3_le (by omega) (by omega)]; omega
    have hr := h.2.2.1 k (by omega)
    rw [f_X6_doOpen_2, f_X6_doOpen_2b, if_neg c4, MH_ck, gB1_s, q_ofReader0 (by omega), gB2_s, fcl]
    cases hd : aRd A k with
    | none =>
      rw [hd] at hr
      have hr : vp V (454 + 3 * k + 0) = 0 := hr
      rw [hr, if_neg (by decide), if_neg (by decide)]
    | some q =>
      rw [hd] at hr
      rw [hr.1, if_pos rfl, i3_s, if_pos (by rfl)]
      exact q_doOpen2 h d f (k + 1) (by omega) (by omega)
theorem q_doOpen {A : aG} (h : MR (vp V) A) (hm : κ.1 ≤ m) (hF : 40 ≤ F) (hn : okNow A) : (fcl A 0 4 = 4 → f_X6_doOpen κ F (some m) (MH m V σ) = some (0, MH m (wco V 1) σ)) ∧
    (fcl A 0 4 < 4 → ∃ P', f_X6_doOpen κ F (some m) (MH m V σ) = some (Int32.ofNat (fcl A 0 4), MH m (wp V P') σ) ∧ MR P' (openA A (fcl A 0 4))) := by
  have h2 := q_doOpen2 (κ := κ) (F := F) (m := m) (V := V) (σ := σ) h 4 F 0 (by omega) (by omega)
  have h0 : f_X6_doOpen κ F (some m) (MH m V σ) = f_X6_doOpen_23 κ F (some m) (Int32.ofNat (fcl A 0 4)) (MH m V σ) := by
    rw [f_X6_doOpen, f_X6_doOpen_0]
    exact h2
  rw [h0]
  generalize fcl A 0 4 = k
  constructor
  · intro hk
    subst hk
    rw [f_X6_doOpen_23, if_pos (by decide), MH_ck, gB1_s, q_refuse hm, gB2_s]
  · intro hk
    have s1 : ∀ (W : mV) (x : Int32), gsI κ (MH m W σ) (some (m + 1)) (((454 : Int32) + ((3 : Int32) * Int32.ofNat k)) + (0 : Int32)) x = some (MH m (wp W (va_up (vp W) (454 + 3 * k + 0) x)) σ) := fun W x => MH_svp hm (by rw [L3, L454, i3_mul, i3_add, i3_0]) (by omega) x
    have s2 : ∀ (W : mV) (x : Int32), gsI κ (MH m W σ) (some (m + 1)) (((454 : Int32) + ((3 : Int32) * Int32.ofNat k)) + (1 : Int32)) x = some (MH m (wp W (va_up (vp W) (454 + 3 * k + 1) x)) σ) := fun W x => MH_svp hm (by rw [L3, L454, i3_mul, i3_add, i3_s]) (by omega) x
    have s3 : ∀ (W : mV) (x : Int32), gsI κ (MH m W σ) (some (m + 1)) (((454 : Int32) + ((3 : Int32) * Int32.ofNat k)) + (2 : Int32)) x = some (MH m (wp W (va_up (vp W) (454 + 3 * k + 2) x)) σ) := fun W x => MH_svp hm (by rw [L3, L454, L2, i3_mul, i3_add, i3_add]) (by omega) x
    have hroot : ∀ P : mR, (∀ j, j < 454 → P j = vp V j) → MRr P A := fun P hP r hr => by
      rw [hP _ (by omega), hP _ (by omega), hP _ (by omega)]
      exact h.2.1 r hr
    have r1 := hroot (va_up (vp V) (454 + 3 * k + 0) 1) (fun j hj => vup_ne (by omega))
    have r2 := hroot (va_up (va_up (vp V) (454 + 3 * k + 0) 1) (454 + 3 * k + 1) (nowC A)) (fun j hj => by rw [vup_ne (by omega), vup_ne (by omega)])
    have e1 : vp (wp V (va_up (vp V) (454 + 3 * k + 0) 1)) (448 + 3 * cur A + 0) = nowC A := (r1 _ (cur2 A)).1
    refine ⟨va_up (va_up (va_up (vp V) (454 + 3 * k + 0) 1) (454 + 3 * k + 1) (nowC A)) (454 + 3 * k + 2) (Int32.ofNat (nowD A)), ?_, ?_⟩
    · rw [f_X6_doOpen_23, if_neg (show ¬ Int32.ofNat k = (4 : Int32) from fun e => by have := (i3_inj (b := 4) (by omega) (by omega)).mp e; omega), MH_rvp, gB1_s, s1, gB1_s, MH_rvp, gB1_s, MH_ck, gB1_s, q_currentR (V := wp V (va_up (vp V) (454 + 3 * k + 0) 1)) (A := A) r1, gB2_s, MH_ck, gB1_s, q_ofRoot0 (cur2 A), gB2_s, e1, s2, gB1_s, MH_rvp, gB1_s, MH_ck, gB1_s, wp_wp, show vp (wp V (va_up (vp V) (454 + 3 * k + 0) 1)) = va_up (vp V) (454 + 3 * k + 0) 1 from rfl, q_nowR (V := wp V (va_up (va_up (vp V) (454 + 3 * k + 0) 1) (454 + 3 * k + 1) (nowC A))) (A := A) r2 hn, gB2_s, s3, gB1_s]
      rfl
    · have hlo : ∀ j, (j < 454 + 3 * k ∨ 454 + 3 * k + 3 ≤ j) → va_up (va_up (va_up (vp V) (454 + 3 * k + 0) 1) (454 + 3 * k + 1) (nowC A)) (454 + 3 * k + 2) (Int32.ofNat (nowD A)) j = vp V j := fun j hj => by rw [vup_ne (by omega), vup_ne (by omega), vup_ne (by omega)]
      refine ⟨fun b hb => MRb_congr (h.1 b hb) (fun j _ _ => hlo j (by omega)) rfl rfl rfl, fun r hr => ?_, fun i hi => ?_, ?_, ?_, ?_⟩
      · rw [hlo _ (by omega), hlo _ (by omega), hlo _ (by omega)]
        exact h.2.1 r hr
      · by_cases e : i = k
        · subst e
          have : aRd (openA A i) i = some (nowC A, nowD A) := vup_at _ _ _
          rw [this]
          refine ⟨?_, ?_, vup_at _ _ _⟩
          · rw [vup_ne (by omega), vup_ne (by omega)]; exact vup_at _ _ _
          · rw [vup_ne (by omega)]; exact vup_at _ _ _
        · have : aRd (openA A k) i = aRd A i := vup_ne e
          rw [this, hlo _ (by omega), hlo _ (by omega), hlo _ (by omega)]
          exact h.2.2.1 i hi
      · rw [hlo _ (by omega), hlo _ (by omega)]; exact h.2.2.2.1
      · rw [hlo _ (by omega)]; exact h.2.2.2.2.1
      · rw [hlo _ (by omega)]; exact h.2.2.2.2.2
end Q
