/-! the reference: copies of its page, writing -/
section Q
variable {κ : gK} {F : Nat} {m : Nat} {V : mV} {σ : gS}
/-- n entries of f from a on, over g from b on -/
def cpy (f g : mR) (a b n : Nat) : mR := fun k => if b ≤ k ∧ k < b + n then f (a + (k - b)) else g k
theorem cpy_0 (f g : mR) (a b : Nat) : cpy f g a b 0 = g := by
  funext k
  unfold cpy
  rw [if_neg (by omega)]
theorem cpy_s (f g : mR) (a b n : Nat) : va_up (cpy f g a b n) (b + n) (f (a + n)) = cpy f g a b (n + 1) := by
  funext k
  unfold va_up cpy
  by_cases h : k = b + n
  · rw [if_pos h, if_pos (by omega), h, Nat.add_sub_cancel_left]
  · rw [if_neg h]
    by_cases h2 : b ≤ k ∧ k < b + n
    · rw [if_pos h2, if_pos (by omega)]
    · rw [if_neg h2, if_neg (by omega)]
theorem q_bring3_pa (hm : κ.1 ≤ m) {a b : Nat} (ha : a + 470 ≤ 470) (hb : b + 470 ≤ 470) : ∀ (d fuel k : Nat), k + d = 470 → d < fuel → f_X6_bring_3 κ F fuel (some (m + 1)) (Int32.ofNat a) (some (m + 2)) (Int32.ofNat b) (Int32.ofNat k) (MH m (was V (cpy (vp V) (vas V) a b k)) σ) = some ((), MH m (was V (cpy (vp V) (vas V) a b 470)) σ)
  | 0, fuel, k, hk, hf => by
    obtain ⟨f, rfl⟩ : ∃ f, fuel = f + 1 := ⟨fuel - 1, by omega⟩
    have hk : k = 470 := by omega
    subst hk
    rw [f_X6_bring_3, f_X6_bring_3b, if_pos (by decide)]
  | d + 1, fuel, k, hk, hf => by
    obtain ⟨f, rfl⟩ : ∃ f, fuel = f + 1 := ⟨fuel - 1, by omega⟩
    have c4 : ¬ ((470 : Int32) ≤ Int32.ofNat k) := by rw [show (470 : Int32) = Int32.ofNat 470 from rfl, i3_le (by omega) (by omega)]; omega
    have ih := q_bring3_pa hm ha hb d f (k + 1) (by omega) (by omega)
    rw [f_X6_bring_3, f_X6_bring_3b, if_neg c4, i3_add, i3_add, MH_gvp (k := a + k) rfl (by omega), gB1_s, MH_svas hm (k := b + k) rfl (by omega), gB1_s, i3_s]
    rw [← cpy_s] at ih
    exact ih
theorem q_bring_pa (hm : κ.1 ≤ m) (hF : 500 ≤ F) {a b : Nat} (ha : a + 470 ≤ 470) (hb : b + 470 ≤ 470) : f_X6_bring κ F (some (m + 1)) (Int32.ofNat a) (some (m + 2)) (Int32.ofNat b) (MH m V σ) = some ((), MH m (was V (cpy (vp V) (vas V) a b 470)) σ) := by
  have h := q_bring3_pa (κ := κ) (F := F) (m := m) (V := V) (σ := σ) hm ha hb 470 F 0 (by omega) (by omega)
  rw [cpy_0] at h
  rw [f_X6_bring, f_X6_bring_0]
  exact h
theorem q_bring3_as (hm : κ.1 ≤ m) {a b : Nat} (ha : a + 470 ≤ 470) (hb : b + 470 ≤ 1880) : ∀ (d fuel k : Nat), k + d = 470 → d < fuel → f_X6_bring_3 κ F fuel (some (m + 2)) (Int32.ofNat a) (some (m + 3)) (Int32.ofNat b) (Int32.ofNat k) (MH m (wsv V (cpy (vas V) (vsv V) a b k)) σ) = some ((), MH m (wsv V (cpy (vas V) (vsv V) a b 470)) σ)
  | 0, fuel, k, hk, hf => by
    obtain ⟨f, rfl⟩ : ∃ f, fuel = f + 1 := ⟨fuel - 1, by omega⟩
    have hk : k = 470 := by omega
    subst hk
    rw [f_X6_bring_3, f_X6_bring_3b, if_pos (by decide)]
  | d + 1, fuel, k, hk, hf => by
    obtain ⟨f, rfl⟩ : ∃ f, fuel = f + 1 := ⟨fuel - 1, by omega⟩
    have c4 : ¬ ((470 : Int32) ≤ Int32.ofNat k) := by rw [show (470 : Int32) = Int32.ofNat 470 from rfl, i3_le (by omega) (by omega)]; omega
    have ih := q_bring3_as hm ha hb d f (k + 1) (by omega) (by omega)
    rw [f_X6_bring_3, f_X6_bring_3b, if_neg c4, i3_add, i3_add, MH_gvas (k := a + k) rfl (by omega), gB1_s, MH_svsv hm (k := b + k) rfl (by omega), gB1_s, i3_s]
    rw [← cpy_s] at ih
    exact ih
theorem q_bring_as (hm : κ.1 ≤ m) (hF : 500 ≤ F) {a b : Nat} (ha : a + 470 ≤ 470) (hb : b + 470 ≤ 1880) : f_X6_bring κ F (some (m + 2)) (Int32.ofNat a) (some (m + 3)) (Int32.ofNat b) (MH m V σ) = some ((), MH m (wsv V (cpy (vas V) (vsv V) a b 470)) σ) := by
  have h := q_bring3_as (κ := κ) (F := F) (m := m) (V := V) (σ := σ) hm ha hb 470 F 0 (by omega) (by omega)
  rw [cpy_0] at h
  rw [f_X6_bring, f_X6_bring_0]
  exact h
theorem q_bring3_sp (hm : κ.1 ≤ m) {a b : Nat} (ha : a + 470 ≤ 1880) (hb : b + 470 ≤ 470) : ∀ (d fuel k : Nat), k + d = 470 → d < fuel → f_X6_bring_3 κ F fuel (some (m + 3)) (Int32.ofNat a) (some (m + 1)) (Int32.ofNat b) (Int32.ofNat k) (MH m (wp V (cpy (vsv V) (vp V) a b k)) σ) = some ((), MH m (wp V (cpy (vsv V) (vp V) a b 470)) σ)
  | 0, fuel, k, hk, hf => by
    obtain ⟨f, rfl⟩ : ∃ f, fuel = f + 1 := ⟨fuel - 1, by omega⟩
    have hk : k = 470 := by omega
    subst hk
    rw [f_X6_bring_3, f_X6_bring_3b, if_pos (by decide)]
  | d + 1, fuel, k, hk, hf => by
    obtain ⟨f, rfl⟩ : ∃ f, fuel = f + 1 := ⟨fuel - 1, by omega⟩
    have c4 : ¬ ((470 : Int32) ≤ Int32.ofNat k) := by rw [show (470 : Int32) = Int32.ofNat 470 from rfl, i3_le (by omega) (by omega)]; omega
    have ih := q_bring3_sp hm ha hb d f (k + 1) (by omega) (by omega)
    rw [f_X6_bring_3, f_X6_bring_3b, if_neg c4, i3_add, i3_add, MH_gvsv (k := a + k) rfl (by omega), gB1_s, MH_svp hm (k := b + k) rfl (by omega), gB1_s, i3_s]
    rw [← cpy_s] at ih
    exact ih
theorem q_bring_sp (hm : κ.1 ≤ m) (hF : 500 ≤ F) {a b : Nat} (ha : a + 470 ≤ 1880) (hb : b + 470 ≤ 470) : f_X6_bring κ F (some (m + 3)) (Int32.ofNat a) (some (m + 1)) (Int32.ofNat b) (MH m V σ) = some ((), MH m (wp V (cpy (vsv V) (vp V) a b 470)) σ) := by
  have h := q_bring3_sp (κ := κ) (F := F) (m := m) (V := V) (σ := σ) hm ha hb 470 F 0 (by omega) (by omega)
  rw [cpy_0] at h
  rw [f_X6_bring, f_X6_bring_0]
  exact h
theorem q_hold (hm : κ.1 ≤ m) (hF : 500 ≤ F) : f_X6_hold κ F (some m) (MH m V σ) = some ((), MH m (was (wco V 0) (cpy (vp V) (vas V) 0 0 470)) σ) := by
  rw [f_X6_hold, f_X6_hold_0, MH_wco hm, gB1_s, MH_rvp, gB1_s, MH_rvas, gB1_s]
  have h := q_bring_pa (κ := κ) (F := F) (m := m) (V := wco V 0) (σ := σ) hm hF (a := 0) (b := 0) (by omega) (by omega)
  show gB2 (f_X6_bring κ F (some (m + 1)) (Int32.ofNat 0) (some (m + 2)) (Int32.ofNat 0) (MH m (wco V 0) σ)) _ = _
  rw [h, gB2_s]
  rfl
theorem q_lay (hm : κ.1 ≤ m) {b w : Nat} {x : Int32} (h : 14 * b + w < 470) : f_X6_lay κ F (some m) (Int32.ofNat b) (Int32.ofNat w) x (MH m V σ) = some ((), MH m (wp V (va_up (vp V) (14 * b + w) x)) σ) := by
  have hx : ((0 : Int32) + ((14 : Int32) * Int32.ofNat b)) + Int32.ofNat w = Int32.ofNat (14 * b + w) := by
    rw [Int32.zero_add, L14, i3_mul, i3_add]
  rw [f_X6_lay, f_X6_lay_0, MH_rvp, gB1_s, MH_svp hm hx h, gB1_s]
theorem q_refuse (hm : κ.1 ≤ m) {x : Int32} : f_X6_refuse κ F (some m) x (MH m V σ) = some (0, MH m (wco V x) σ) := by
  rw [f_X6_refuse, f_X6_refuse_0, MH_wco hm, gB1_s]
theorem q_fails (hm : κ.1 ≤ m) {x : Int32} : f_X6_fails κ F (some m) x (MH m V σ) = some (0, MH m (wth V x) σ) := by
  rw [f_X6_fails, f_X6_fails_0, MH_wth hm, gB1_s]
/-- the saved pages move down by one -/
def shf (f : mR) (n : Nat) : mR := fun k => if k < n then f (k + 470) else f k
theorem q_ends27 (hm : κ.1 ≤ m) {x : Int32} : ∀ (d fuel k : Nat), k + d = 1410 → d < fuel → f_X6_ends_27 κ F fuel (some m) x (Int32.ofNat k) (MH m (wsv V (shf (vsv V) k)) σ) = f_X6_ends_66 κ F (some m) x (MH m (wst (wsv V (shf (vsv V) 1410)) (vst V - 1)) σ)
  | 0, fuel, k, hk, hf => by
    obtain ⟨f, rfl⟩ : ∃ f, fuel = f + 1 := ⟨fuel - 1, by omega⟩
    have hk : k = 1410 := by omega
    subst hk
    rw [f_X6_ends_27, f_X6_ends_27b, if_pos (by decide), MH_vst, gB1_s, MH_wst hm, gB1_s]
    rfl
  | d + 1, fuel, k, hk, hf => by
    obtain ⟨f, rfl⟩ : ∃ f, fuel = f + 1 := ⟨fuel - 1, by omega⟩
    have c4 : ¬ ((1410 : Int32) ≤ Int32.ofNat k) := by rw [show (1410 : Int32) = Int32.ofNat 1410 from rfl, i3_le (by omega) (by omega)]; omega
    have ih := q_ends27 (x := x) hm d f (k + 1) (by omega) (by omega)
    have hs : va_up (shf (vsv V) k) k (shf (vsv V) k (k + 470)) = shf (vsv V) (k + 1) := by
      funext j
      unfold va_up shf
      by_cases h : j = k
      · rw [if_pos h, if_neg (by omega), if_pos (by omega), h]
      · rw [if_neg h]
        by_cases h2 : j < k
        · rw [if_pos h2, if_pos (by omega)]
        · rw [if_neg h2, if_neg (by omega)]
    rw [f_X6_ends_27, f_X6_ends_27b, if_neg c4, MH_rvsv, gB1_s, gB1_s, show Int32.ofNat k + (470 : Int32) = Int32.ofNat (k + 470) from i3_add k 470, MH_gvsv (k := k + 470) rfl (by omega), gB1_s, MH_svsv hm (k := k) rfl (by omega), gB1_s, i3_s]
    show f_X6_ends_27 κ F f (some m) x (Int32.ofNat (k + 1)) (MH m (wsv V (va_up (shf (vsv V) k) k (shf (vsv V) k (k + 470)))) σ) = _
    rw [hs]
    exact ih
theorem q_ends66 (hm : κ.1 ≤ m) (hF : 500 ≤ F) {x : Int32} {s : Nat} (hs : vst V = Int32.ofNat s) (h3 : s < 4) : f_X6_ends_66 κ F (some m) x (MH m V σ) = some (x, MH m (wst (wsv V (cpy (vas V) (vsv V) 0 (470 * s) 470)) (Int32.ofNat (s + 1))) σ) := by
  rw [f_X6_ends_66, MH_rvas, gB1_s, MH_rvsv, gB1_s, MH_vst, gB1_s, hs, show (470 : Int32) * Int32.ofNat s = Int32.ofNat (470 * s) from i3_mul 470 s]
  show gB2 (f_X6_bring κ F (some (m + 2)) (Int32.ofNat 0) (some (m + 3)) (Int32.ofNat (470 * s)) (MH m V σ)) _ = _
  rw [q_bring_as hm hF (by omega) (by omega), gB2_s, MH_vst, gB1_s]
  show gB1 (gpf κ _ (some m) 9 3 (.int (vst V + 1))) _ = _
  rw [hs, i3_s, MH_wst hm, gB1_s]
/-- an operation's end -/
theorem q_ends_x (hm : κ.1 ≤ m) {x : Int32} (hc : vco V ≠ 0) : f_X6_ends κ F (some m) x (MH m V σ) = some (0, MH m (wth V (vco V)) σ) := by
  rw [f_X6_ends, f_X6_ends_0, MH_vco, gB1_s, MH_wth hm, gB1_s, MH_vco, gB1_s, if_neg (show ¬ vco (wth V (vco V)) = 0 from hc)]
theorem q_ends (hm : κ.1 ≤ m) (hF : 1500 ≤ F) {x : Int32} {s : Nat} (hc : vco V = 0) (hs : vst V = Int32.ofNat s) (h4 : s ≤ 4) : f_X6_ends κ F (some m) x (MH m V σ) = some (x, MH m (if s = 4 then wst (wsv (wth V 0) (cpy (vas V) (shf (vsv V) 1410) 0 1410 470)) (Int32.ofNat 4) else wst (wsv (wth V 0) (cpy (vas V) (vsv V) 0 (470 * s) 470)) (Int32.ofNat (s + 1))) σ) := by
  rw [f_X6_ends, f_X6_ends_0, MH_vco, gB1_s, hc, MH_wth hm, gB1_s, MH_vco, gB1_s]
  rw [if_pos (show vco (wth V 0) = 0 from hc), MH_vst, gB1_s]
  have hst : vst (wth V 0) = Int32.ofNat s := hs
  rw [hst]
  by_cases h : s = 4
  · subst h
    rw [if_pos (show Int32.ofNat 4 = (4 : Int32) from rfl), if_pos rfl]
    have h27 := q_ends27 (κ := κ) (F := F) (m := m) (V := wth V 0) (σ := σ) (x := x) hm 1410 F 0 (by omega) (by omega)
    have h0 : wsv (wth V 0) (shf (vsv (wth V 0)) 0) = wth V 0 := by
      have : shf (vsv (wth V 0)) 0 = vsv (wth V 0) := by funext k; simp [shf]
      rw [this]; rfl
    rw [h0] at h27
    show f_X6_ends_27 κ F F (some m) x (Int32.ofNat 0) (MH m (wth V 0) σ) = _
    rw [h27]
    have h66 := q_ends66 (κ := κ) (F := F) (m := m) (V := wst (wsv (wth V 0) (shf (vsv (wth V 0)) 1410)) (vst (wth V 0) - 1)) (σ := σ) (x := x) hm (by omega) (s := 3) (by rw [hst]; rfl) (by omega)
    rw [h66]
    rfl
  · rw [if_neg h, if_neg (show ¬ Int32.ofNat s = (4 : Int32) from fun e => h ((i3_inj (b := 4) (by omega) (by omega)).mp e)), q_ends66 hm (by omega) hst (by omega)]
    rfl
end Q
