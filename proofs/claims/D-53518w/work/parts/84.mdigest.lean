/-! the reference: digest -/
def hmr (f : Nat → Int32) (h : Int64) : Nat → Int64
  | 0 => h
  | n + 1 => (31 : Int64) * hmr f h n + (f n).toInt64
def spDigest (S : aS) : Int64 :=
  let h0 := hmr (fun _ => Int32.ofNat S.2.1.length) 43518 1
  let h1 := hmr (vTellS S) h0 15
  let h2 := hmr (fun k => vRoot S.1 (k / 4) (k % 4)) h1 8
  let h3 := hmr (fun k => vReader S.1 (k / 3) (k % 3)) h2 12
  let h4 := hmr (fun k => vBed S.1 (k / 6) (k % 6)) h3 192
  let h5 := hmr (fun k => entry S.1 (dirL S.1 (nowD S.1)) (k / 4) (k % 4)) h4 (4 * entsBy S.1 (dirL S.1 (nowD S.1)))
  let h6 := hmr (fun _ => vNext S.1) h5 1
  hmr (fun k => valBy S.1 (drD S.1) (Int32.ofNat k)) h6 (if isDr S.1 then 100 else 0)
theorem MM_wha {V : mV} {S : aS} (h : MM V S) (x : Int64) : MM (wha V x) S := by
  have e1 : vp (wha V x) = vp V := by simp only [wha, vp]
  have e2 : vst (wha V x) = vst V := by simp only [wha, vst]
  have e3 : vsv (wha V x) = vsv V := by simp only [wha, vsv]
  have e4 : vln (wha V x) = vln V := by simp only [wha, vln]
  have e5 : vtx (wha V x) = vtx V := by simp only [wha, vtx]
  unfold MM
  rw [e1, e2, e3, e4, e5]
  exact h
theorem wha_wha (V : mV) (x y : Int64) : wha (wha V x) y = wha V y := by simp only [wha]
theorem vha_wha (V : mV) (x : Int64) : vha (wha V x) = x := by simp only [wha, vha]
section Q
variable {κ : gK} {F : Nat} {m : Nat} {V : mV} {σ : gS}
theorem q_mix (hm : κ.1 ≤ m) (x : Int64) (v : Int32) : f_X6_mix κ F (some m) v (MH m (wha V x) σ) = some ((), MH m (wha V ((31 : Int64) * x + v.toInt64)) σ) := by
  rw [f_X6_mix, f_X6_mix_0, MH_vha, gB1_s, vha_wha, MH_wha hm, gB1_s, wha_wha]
theorem q_dig22 {n : Nat} {S : aS} (h : MM V S) (hw : WS n S) (hm : κ.1 ≤ m) (hF : 40 ≤ F) {h0 : Int64} : ∀ (d fuel k : Nat), k + d = 15 → d < fuel → f_X6_digest_22 κ F fuel (some m) (Int32.ofNat k) (MH m (wha V (hmr (vTellS S) h0 k)) σ) = f_X6_digest_45 κ F F (some m) (Int32.ofNat 0) (MH m (wha V (hmr (vTellS S) h0 15)) σ)
  | 0, fuel, k, hk, hf => by
    obtain ⟨f, rfl⟩ : ∃ f, fuel = f + 1 := ⟨fuel - 1, by omega⟩
    have hk : k = 15 := by omega
    subst hk
    rw [f_X6_digest_22, f_X6_digest_22b, if_pos (by decide)]
    rfl
  | d + 1, fuel, k, hk, hf => by
    obtain ⟨f, rfl⟩ : ∃ f, fuel = f + 1 := ⟨fuel - 1, by omega⟩
    have c4 : ¬ ((15 : Int32) ≤ Int32.ofNat k) := by rw [show (15 : Int32) = Int32.ofNat 15 from rfl, i3_le (by omega) (by omega)]; omega
    rw [f_X6_digest_22, f_X6_digest_22b, if_neg c4, MH_ck, gB1_s, q_tellS (MM_wha h _) hw hF (by omega), gB2_s, MH_ck, gB1_s, q_mix hm, gB2_s, i3_s]
    exact q_dig22 h hw hm hF d f (k + 1) (by omega) (by omega)
theorem q_dig52 {n : Nat} {S : aS} (h : MM V S) (hw : WS n S) (hm : κ.1 ≤ m) {h0 : Int64} {r : Nat} (hr : r < 2) (k45 : Option Nat → Int32 → gS → Option (Int64 × gS)) : ∀ (d fuel w : Nat), w + d = 4 → d < fuel → f_X6_digest_52 κ F k45 fuel (some m) (Int32.ofNat r) (Int32.ofNat w) (MH m (wha V (hmr (fun k => vRoot S.1 (k / 4) (k % 4)) h0 (4 * r + w))) σ) = k45 (some m) (Int32.ofNat (r + 1)) (MH m (wha V (hmr (fun k => vRoot S.1 (k / 4) (k % 4)) h0 (4 * (r + 1)))) σ)
  | 0, fuel, w, hk, hf => by
    obtain ⟨f, rfl⟩ : ∃ f, fuel = f + 1 := ⟨fuel - 1, by omega⟩
    have hk : w = 4 := by omega
    subst hk
    rw [f_X6_digest_52, f_X6_digest_52b, if_pos (by decide), i3_s]
    rfl
  | d + 1, fuel, w, hk, hf => by
    obtain ⟨f, rfl⟩ : ∃ f, fuel = f + 1 := ⟨fuel - 1, by omega⟩
    have c4 : ¬ ((4 : Int32) ≤ Int32.ofNat w) := by rw [L4, i3_le (by omega) (by omega)]; omega
    have ih := q_dig52 h hw hm (h0 := h0) hr k45 d f (w + 1) (by omega) (by omega)
    rw [show 4 * r + (w + 1) = (4 * r + w) + 1 by omega, hmr, show (4 * r + w) / 4 = r by omega, show (4 * r + w) % 4 = w by omega] at ih
    rw [f_X6_digest_52, f_X6_digest_52b, if_neg c4, MH_ck, gB1_s, q_tellRoot (MR_0 (MM_wha h _).1) hr (by omega) (hw.1.1.2.1 r hr), gB2_s, MH_ck, gB1_s, q_mix hm, gB2_s, i3_s]
    exact ih
theorem q_dig45 {n : Nat} {S : aS} (h : MM V S) (hw : WS n S) (hm : κ.1 ≤ m) (hF : 40 ≤ F) {h0 : Int64} : ∀ (d fuel r : Nat), r + d = 2 → d < fuel → f_X6_digest_45 κ F fuel (some m) (Int32.ofNat r) (MH m (wha V (hmr (fun k => vRoot S.1 (k / 4) (k % 4)) h0 (4 * r))) σ) = f_X6_digest_81 κ F F (some m) (Int32.ofNat 0) (MH m (wha V (hmr (fun k => vRoot S.1 (k / 4) (k % 4)) h0 8)) σ)
  | 0, fuel, r, hk, hf => by
    obtain ⟨f, rfl⟩ : ∃ f, fuel = f + 1 := ⟨fuel - 1, by omega⟩
    have hk : r = 2 := by omega
    subst hk
    rw [f_X6_digest_45, f_X6_digest_45b, if_pos (by decide)]
    rfl
  | d + 1, fuel, r, hk, hf => by
    obtain ⟨f, rfl⟩ : ∃ f, fuel = f + 1 := ⟨fuel - 1, by omega⟩
    have c4 : ¬ ((2 : Int32) ≤ Int32.ofNat r) := by rw [L2, i3_le (by omega) (by omega)]; omega
    rw [f_X6_digest_45, f_X6_digest_45b, if_neg c4]
    have := q_dig52 (κ := κ) (F := F) (σ := σ) h hw hm (h0 := h0) (show r < 2 by omega) (f_X6_digest_45 κ F f) 4 F 0 (by omega) (by omega)
    refine this.trans ?_
    exact q_dig45 h hw hm hF d f (r + 1) (by omega) (by omega)
theorem q_dig88 {n : Nat} {S : aS} (h : MM V S) (hw : WS n S) (hm : κ.1 ≤ m) (hF : 40 ≤ F) {h0 : Int64} {r : Nat} (hr : r < 4) (k45 : Option Nat → Int32 → gS → Option (Int64 × gS)) : ∀ (d fuel w : Nat), w + d = 3 → d < fuel → f_X6_digest_88 κ F k45 fuel (some m) (Int32.ofNat r) (Int32.ofNat w) (MH m (wha V (hmr (fun k => vReader S.1 (k / 3) (k % 3)) h0 (3 * r + w))) σ) = k45 (some m) (Int32.ofNat (r + 1)) (MH m (wha V (hmr (fun k => vReader S.1 (k / 3) (k % 3)) h0 (3 * (r + 1)))) σ)
  | 0, fuel, w, hk, hf => by
    obtain ⟨f, rfl⟩ : ∃ f, fuel = f + 1 := ⟨fuel - 1, by omega⟩
    have hk : w = 3 := by omega
    subst hk
    rw [f_X6_digest_88, f_X6_digest_88b, if_pos (by decide), i3_s]
    rfl
  | d + 1, fuel, w, hk, hf => by
    obtain ⟨f, rfl⟩ : ∃ f, fuel = f + 1 := ⟨fuel - 1, by omega⟩
    have c4 : ¬ ((3 : Int32) ≤ Int32.ofNat w) := by rw [L3, i3_le (by omega) (by omega)]; omega
    have ih := q_dig88 h hw hm hF (h0 := h0) hr k45 d f (w + 1) (by omega) (by omega)
    rw [show 3 * r + (w + 1) = (3 * r + w) + 1 by omega, hmr, show (3 * r + w) / 3 = r by omega, show (3 * r + w) % 3 = w by omega] at ih
    rw [f_X6_digest_88, f_X6_digest_88b, if_neg c4, MH_ck, gB1_s, q_tellReader (MR_0 (MM_wha h _).1) hF hr (by omega) (fun q hq => ⟨_, WF_rdr hw.1 hr hq⟩), gB2_s, MH_ck, gB1_s, q_mix hm, gB2_s, i3_s]
    exact ih
theorem q_dig81 {n : Nat} {S : aS} (h : MM V S) (hw : WS n S) (hm : κ.1 ≤ m) (hF : 40 ≤ F) {h0 : Int64} : ∀ (d fuel r : Nat), r + d = 4 → d < fuel → f_X6_digest_81 κ F fuel (some m) (Int32.ofNat r) (MH m (wha V (hmr (fun k => vReader S.1 (k / 3) (k % 3)) h0 (3 * r))) σ) = gB2 (f_X6_mixRest κ F (some m) (MH m (wha V (hmr (fun k => vReader S.1 (k / 3) (k % 3)) h0 12)) σ)) (fun v2 s1 => gB1 (gfJ s1 (some m) 9 12) fun v4 => some (v4, s1))
  | 0, fuel, r, hk, hf => by
    obtain ⟨f, rfl⟩ : ∃ f, fuel = f + 1 := ⟨fuel - 1, by omega⟩
    have hk : r = 4 := by omega
    subst hk
    rw [f_X6_digest_81, f_X6_digest_81b, if_pos (by decide), MH_ck, gB1_s]
  | d + 1, fuel, r, hk, hf => by
    obtain ⟨f, rfl⟩ : ∃ f, fuel = f + 1 := ⟨fuel - 1, by omega⟩
    have c4 : ¬ ((4 : Int32) ≤ Int32.ofNat r) := by rw [L4, i3_le (by omega) (by omega)]; omega
    rw [f_X6_digest_81, f_X6_digest_81b, if_neg c4]
    have := q_dig88 (κ := κ) (F := F) (σ := σ) h hw hm hF (h0 := h0) (show r < 4 by omega) (f_X6_digest_81 κ F f) 3 F 0 (by omega) (by omega)
    refine this.trans ?_
    exact q_dig81 h hw hm hF d f (r + 1) (by omega) (by omega)
theorem q_rest10 {S : aS} (h : MM V S) (hm : κ.1 ≤ m) (hF : 40 ≤ F) {h0 : Int64} {r : Nat} (hr : r < 32) (k2 : Option Nat → Int32 → gS → Option (Unit × gS)) : ∀ (d fuel w : Nat), w + d = 6 → d < fuel → f_X6_mixRest_10 κ F k2 fuel (some m) (Int32.ofNat r) (Int32.ofNat w) (MH m (wha V (hmr (fun k => vBed S.1 (k / 6) (k % 6)) h0 (6 * r + w))) σ) = k2 (some m) (Int32.ofNat (r + 1)) (MH m (wha V (hmr (fun k => vBed S.1 (k / 6) (k % 6)) h0 (6 * (r + 1)))) σ)
  | 0, fuel, w, hk, hf => by
    obtain ⟨f, rfl⟩ : ∃ f, fuel = f + 1 := ⟨fuel - 1, by omega⟩
    have hk : w = 6 := by omega
    subst hk
    rw [f_X6_mixRest_10, f_X6_mixRest_10b, if_pos (by decide), i3_s]
    rfl
  | d + 1, fuel, w, hk, hf => by
    obtain ⟨f, rfl⟩ : ∃ f, fuel = f + 1 := ⟨fuel - 1, by omega⟩
    have c4 : ¬ ((6 : Int32) ≤ Int32.ofNat w) := by rw [L6, i3_le (by omega) (by omega)]; omega
    have ih := q_rest10 h hm hF (h0 := h0) hr k2 d f (w + 1) (by omega) (by omega)
    rw [show 6 * r + (w + 1) = (6 * r + w) + 1 by omega, hmr, show (6 * r + w) / 6 = r by omega, show (6 * r + w) % 6 = w by omega] at ih
    rw [f_X6_mixRest_10, f_X6_mixRest_10b, if_neg c4, MH_ck, gB1_s, q_tellBed (MR_0 (MM_wha h _).1) hF hr (by omega), gB2_s, MH_ck, gB1_s, q_mix hm, gB2_s, i3_s]
    exact ih
theorem q_rest2 {S : aS} (h : MM V S) (hm : κ.1 ≤ m) (hF : 40 ≤ F) {h0 : Int64} : ∀ (d fuel r : Nat), r + d = 32 → d < fuel → f_X6_mixRest_2 κ F fuel (some m) (Int32.ofNat r) (MH m (wha V (hmr (fun k => vBed S.1 (k / 6) (k % 6)) h0 (6 * r))) σ) = f_X6_mixRest_40 κ F F (some m) (Int32.ofNat 0) (MH m (wha V (hmr (fun k => vBed S.1 (k / 6) (k % 6)) h0 192)) σ)
  | 0, fuel, r, hk, hf => by
    obtain ⟨f, rfl⟩ : ∃ f, fuel = f + 1 := ⟨fuel - 1, by omega⟩
    have hk : r = 32 := by omega
    subst hk
    rw [f_X6_mixRest_2, f_X6_mixRest_2b, if_pos (by decide)]
    rfl
  | d + 1, fuel, r, hk, hf => by
    obtain ⟨f, rfl⟩ : ∃ f, fuel = f + 1 := ⟨fuel - 1, by omega⟩
    have c4 : ¬ ((32 : Int32) ≤ Int32.ofNat r) := by rw [show (32 : Int32) = Int32.ofNat 32 from rfl, i3_le (by omega) (by omega)]; omega
    rw [f_X6_mixRest_2, f_X6_mixRest_2b, if_neg c4]
    have := q_rest10 (κ := κ) (F := F) (σ := σ) h hm hF (h0 := h0) (show r < 32 by omega) (f_X6_mixRest_2 κ F f) 6 F 0 (by omega) (by omega)
    refine this.trans ?_
    exact q_rest2 h hm hF d f (r + 1) (by omega) (by omega)
theorem q_rest54 {n : Nat} {S : aS} (h : MM V S) (hw : WS n S) (hm : κ.1 ≤ m) (hF : 40 ≤ F) {h0 : Int64} {r : Nat} (hr : r < entsBy S.1 (dirL S.1 (nowD S.1))) (k2 : Option Nat → Int32 → gS → Option (Unit × gS)) : ∀ (d fuel w : Nat), w + d = 4 → d < fuel → f_X6_mixRest_54 κ F k2 fuel (some m) (Int32.ofNat r) (Int32.ofNat w) (MH m (wha V (hmr (fun k => entry S.1 (dirL S.1 (nowD S.1)) (k / 4) (k % 4)) h0 (4 * r + w))) σ) = k2 (some m) (Int32.ofNat (r + 1)) (MH m (wha V (hmr (fun k => entry S.1 (dirL S.1 (nowD S.1)) (k / 4) (k % 4)) h0 (4 * (r + 1)))) σ)
  | 0, fuel, w, hk, hf => by
    obtain ⟨f, rfl⟩ : ∃ f, fuel = f + 1 := ⟨fuel - 1, by omega⟩
    have hk : w = 4 := by omega
    subst hk
    rw [f_X6_mixRest_54, f_X6_mixRest_54b, if_pos (by decide), i3_s]
    rfl
  | d + 1, fuel, w, hk, hf => by
    obtain ⟨f, rfl⟩ : ∃ f, fuel = f + 1 := ⟨fuel - 1, by omega⟩
    have c4 : ¬ ((4 : Int32) ≤ Int32.ofNat w) := by rw [L4, i3_le (by omega) (by omega)]; omega
    have ih := q_rest54 h hw hm hF (h0 := h0) hr k2 d f (w + 1) (by omega) (by omega)
    rw [show 4 * r + (w + 1) = (4 * r + w) + 1 by omega, hmr, show (4 * r + w) / 4 = r by omega, show (4 * r + w) % 4 = w by omega] at ih
    rw [f_X6_mixRest_54, f_X6_mixRest_54b, if_neg c4, MH_ck, gB1_s, q_tellEntry (MM_wha h _).1 hw.1 hF (by omega) hr, gB2_s, MH_ck, gB1_s, q_mix hm, gB2_s, i3_s]
    exact ih
theorem q_rest40 {n : Nat} {S : aS} (h : MM V S) (hw : WS n S) (hm : κ.1 ≤ m) (hF : 40 ≤ F) {h0 : Int64} : ∀ (d fuel r : Nat), r + d = entsBy S.1 (dirL S.1 (nowD S.1)) → d < fuel → f_X6_mixRest_40 κ F fuel (some m) (Int32.ofNat r) (MH m (wha V (hmr (fun k => entry S.1 (dirL S.1 (nowD S.1)) (k / 4) (k % 4)) h0 (4 * r))) σ) = f_X6_mixRest_91 κ F F (some m) (Int32.ofNat 0) (MH m (wha V (hmr (fun _ => vNext S.1) (hmr (fun k => entry S.1 (dirL S.1 (nowD S.1)) (k / 4) (k % 4)) h0 (4 * entsBy S.1 (dirL S.1 (nowD S.1)))) 1)) σ)
  | 0, fuel, r, hk, hf => by
    obtain ⟨f, rfl⟩ : ∃ f, fuel = f + 1 := ⟨fuel - 1, by omega⟩
    have hk : r = entsBy S.1 (dirL S.1 (nowD S.1)) := by omega
    subst hk
    have hM := MM_wha h (hmr (fun k => entry S.1 (dirL S.1 (nowD S.1)) (k / 4) (k % 4)) h0 (4 * entsBy S.1 (dirL S.1 (nowD S.1))))
    rw [f_X6_mixRest_40, f_X6_mixRest_40b, MH_ck, gB1_s, q_now (MR_0 hM.1) hw.1.1.1, gB2_s, MH_ck, gB1_s, q_entriesBy (MR_0 hM.1) hF (WF_now hw.1), gB2_s, if_pos (Int32.le_refl _), MH_ck, gB1_s, q_tellNext (MR_0 hM.1) hF, gB2_s, MH_ck, gB1_s, q_mix hm, gB2_s]
    rfl
  | d + 1, fuel, r, hk, hf => by
    obtain ⟨f, rfl⟩ : ∃ f, fuel = f + 1 := ⟨fuel - 1, by omega⟩
    have h24 := ents_96 h.1 hw.1
    have hM := MM_wha h (hmr (fun k => entry S.1 (dirL S.1 (nowD S.1)) (k / 4) (k % 4)) h0 (4 * r))
    rw [f_X6_mixRest_40, f_X6_mixRest_40b, MH_ck, gB1_s, q_now (MR_0 hM.1) hw.1.1.1, gB2_s, MH_ck, gB1_s, q_entriesBy (MR_0 hM.1) hF (WF_now hw.1), gB2_s, if_neg (by rw [i3_le (by omega) (by omega)]; omega)]
    have := q_rest54 (κ := κ) (F := F) (σ := σ) h hw hm hF (h0 := h0) (show r < entsBy S.1 (dirL S.1 (nowD S.1)) by omega) (f_X6_mixRest_40 κ F f) 4 F 0 (by omega) (by omega)
    refine this.trans ?_
    exact q_rest40 h hw hm hF d f (r + 1) (by omega) (by omega)
theorem q_rest91 {n : Nat} {S : aS} (h : MM V S) (hw : WS n S) (hm : κ.1 ≤ m) (hF : 40 ≤ F) (hd : isDr S.1 = true) {h0 : Int64} : ∀ (d fuel k : Nat), k + d = 100 → d < fuel → f_X6_mixRest_91 κ F fuel (some m) (Int32.ofNat k) (MH m (wha V (hmr (fun k => valBy S.1 (drD S.1) (Int32.ofNat k)) h0 k)) σ) = some ((), MH m (wha V (hmr (fun k => valBy S.1 (drD S.1) (Int32.ofNat k)) h0 100)) σ)
  | 0, fuel, k, hk, hf => by
    obtain ⟨f, rfl⟩ : ∃ f, fuel = f + 1 := ⟨fuel - 1, by omega⟩
    have hk : k = 100 := by omega
    subst hk
    rw [f_X6_mixRest_91, f_X6_mixRest_91b, if_pos (by decide), f_X6_mixRest_128]
  | d + 1, fuel, k, hk, hf => by
    obtain ⟨f, rfl⟩ : ∃ f, fuel = f + 1 := ⟨fuel - 1, by omega⟩
    have c4 : ¬ ((100 : Int32) ≤ Int32.ofNat k) := by rw [show (100 : Int32) = Int32.ofNat 100 from rfl, i3_le (by omega) (by omega)]; omega
    have hM := MM_wha h (hmr (fun k => valBy S.1 (drD S.1) (Int32.ofNat k)) h0 k)
    have hg : gaI (MH m (wha V (hmr (fun k => valBy S.1 (drD S.1) (Int32.ofNat k)) h0 k)) σ) (some (m + 1)) 0 (466 : Int32) = some (vp (wha V (hmr (fun k => valBy S.1 (drD S.1) (Int32.ofNat k)) h0 k)) 466) := MH_gvp (k := 466) rfl (by omega)
    rw [f_X6_mixRest_91, f_X6_mixRest_91b, if_neg c4, MH_rvp, gB1_s, hg, gB1_s, q_p466 hM.1, hd, if_pos rfl, if_pos rfl, MH_ck, gB1_s, q_drafts hM.1 hw.1.1.1 (drD_lt hw.1), gB2_s, MH_ck, gB1_s, q_valueBy (MR_0 hM.1) hF (WF_okD hw.1 hd), gB2_s, MH_ck, gB1_s, q_mix hm, gB2_s, i3_s]
    exact q_rest91 h hw hm hF hd d f (k + 1) (by omega) (by omega)
theorem q_digest {n : Nat} {S : aS} (h : MM V S) (hw : WS n S) (hm : κ.1 ≤ m) (hF : 200 ≤ F) : ∃ V', f_X6_digest κ F (some m) (MH m V σ) = some (spDigest S, MH m V' σ) ∧ MM V' S := by
  have hM0 : MM (wth V 0) S := h
  generalize hV0 : wth V 0 = V0 at hM0
  have hst : vst (wha V0 43518) = Int32.ofNat S.2.1.length := by
    have : vst (wha V0 43518) = vst V0 := by simp only [wha, vst]
    rw [this]
    exact hM0.2.1
  have h24 := ents_96 hM0.1 hw.1
  have d22 := q_dig22 (κ := κ) (F := F) (σ := σ) hM0 hw hm (by omega) (h0 := hmr (fun _ => Int32.ofNat S.2.1.length) 43518 1) 15 F 0 (by omega) (by omega)
  have d45 := q_dig45 (κ := κ) (F := F) (σ := σ) hM0 hw hm (by omega) (h0 := hmr (vTellS S) (hmr (fun _ => Int32.ofNat S.2.1.length) 43518 1) 15) 2 F 0 (by omega) (by omega)
  have d81 := q_dig81 (κ := κ) (F := F) (σ := σ) hM0 hw hm (by omega) (h0 := hmr (fun k => vRoot S.1 (k / 4) (k % 4)) (hmr (vTellS S) (hmr (fun _ => Int32.ofNat S.2.1.length) 43518 1) 15) 8) 4 F 0 (by omega) (by omega)
  have d2 := q_rest2 (κ := κ) (F := F) (σ := σ) hM0 hm (by omega) (h0 := hmr (fun k => vReader S.1 (k / 3) (k % 3)) (hmr (fun k => vRoot S.1 (k / 4) (k % 4)) (hmr (vTellS S) (hmr (fun _ => Int32.ofNat S.2.1.length) 43518 1) 15) 8) 12) 32 F 0 (by omega) (by omega)
  have d40 := q_rest40 (κ := κ) (F := F) (σ := σ) hM0 hw hm (by omega) (h0 := hmr (fun k => vBed S.1 (k / 6) (k % 6)) (hmr (fun k => vReader S.1 (k / 3) (k % 3)) (hmr (fun k => vRoot S.1 (k / 4) (k % 4)) (hmr (vTellS S) (hmr (fun _ => Int32.ofNat S.2.1.length) 43518 1) 15) 8) 12) 192) (entsBy S.1 (dirL S.1 (nowD S.1))) F 0 (by omega) (by omega)
  have start : f_X6_digest κ F (some m) (MH m V σ) = f_X6_digest_22 κ F F (some m) (Int32.ofNat 0) (MH m (wha V0 (hmr (vTellS S) (hmr (fun _ => Int32.ofNat S.2.1.length) 43518 1) 0)) σ) := by
    rw [f_X6_digest, f_X6_digest_0, MH_wth hm, gB1_s, hV0, MH_wha hm, gB1_s, MH_vst, gB1_s, hst, MH_ck, gB1_s, q_mix hm, gB2_s]
    rfl
  rw [start]
  have rest : ∃ W, f_X6_mixRest κ F (some m) (MH m (wha V0 (hmr (fun k => vReader S.1 (k / 3) (k % 3)) (hmr (fun k => vRoot S.1 (k / 4) (k % 4)) (hmr (vTellS S) (hmr (fun _ => Int32.ofNat S.2.1.length) 43518 1) 15) 8) 12)) σ) = some ((), MH m (wha V0 (spDigest S)) σ) ∧ W = V0 := by
    refine ⟨V0, ?_, rfl⟩
    rw [f_X6_mixRest, f_X6_mixRest_0]
    refine d2.trans ?_
    refine d40.trans ?_
    unfold spDigest
    simp only
    generalize hmr (fun _ => vNext S.1) _ 1 = h6
    obtain ⟨f, rfl⟩ : ∃ f, F = f + 1 := ⟨F - 1, by omega⟩
    cases hd : isDr S.1 with
    | true =>
      rw [if_pos rfl]
      exact q_rest91 (κ := κ) (σ := σ) hM0 hw hm (by omega) hd (h0 := h6) 100 (f + 1) 0 (by omega) (by omega)
    | false =>
      have hM := MM_wha hM0 h6
      have hg : gaI (MH m (wha V0 h6) σ) (some (m + 1)) 0 (466 : Int32) = some (vp (wha V0 h6) 466) := MH_gvp (k := 466) rfl (by omega)
      rw [f_X6_mixRest_91, f_X6_mixRest_91b, if_neg (by decide), MH_rvp, gB1_s, hg, gB1_s, q_p466 hM.1, hd, if_neg (by decide), if_neg (by decide), f_X6_mixRest_128]
      rfl
  obtain ⟨W, r1, _⟩ := rest
  refine ⟨wha V0 (spDigest S), ?_, MM_wha hM0 _⟩
  refine d22.trans ?_
  refine d45.trans ?_
  refine d81.trans ?_
  rw [r1, gB2_s, MH_vha, gB1_s, vha_wha]
end Q
