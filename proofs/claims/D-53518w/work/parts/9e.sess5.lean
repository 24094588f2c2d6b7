set_option maxRecDepth 100000
/-! the component's session: digest -/
section C
variable {κ : gK} {B : Nat → Nat} {bd : Nat} {F : Nat} {ω : Nat → Nat} {o : Nat} {S : aS}
theorem km_n {n m : Nat} {σ σ' : gS} (h : KM κ B bd σ ω o S) (e : ext nT n m σ ω σ' ω) : KM κ B bd σ' ω o S := KM_mv h e (fun _ h => h.elim)
theorem hash_eq (h : Int64) (v : Int32) (s : gS) : f_X1_hash κ F h v s = some ((31 : Int64) * h + v.toInt64, s) := rfl
theorem d_16 {n : Nat} (hK : KS κ) (hF : 64 ≤ F) (hw : WS n S) {h0 : Int64} {σ : gS} (h : KM κ B bd σ ω o S) : ∀ (d fuel k : Nat), k + d = 15 → d < fuel → f_X1_digest_16 κ F fuel (some o) (hmr (vTellS S) h0 k) (Int32.ofNat k) σ = f_X1_digest_40 κ F F (some o) (hmr (vTellS S) h0 15) (0 : Int32) σ
  | 0, fuel, k, hk, hf => by
    obtain ⟨f, rfl⟩ : ∃ f, fuel = f + 1 := ⟨fuel - 1, by omega⟩
    have hk : k = 15 := by omega
    subst hk
    rw [f_X1_digest_16, f_X1_digest_16b, if_pos (by decide)]
  | d + 1, fuel, k, hk, hf => by
    obtain ⟨f, rfl⟩ : ∃ f, fuel = f + 1 := ⟨fuel - 1, by omega⟩
    have c4 : ¬ ((15 : Int32) ≤ Int32.ofNat k) := by rw [show (15 : Int32) = Int32.ofNat 15 from rfl, i3_le (by omega) (by omega)]; omega
    obtain ⟨t, g, c, r0, rk, hg, hB, _⟩ := km_cur h
    rw [f_X1_digest_16, f_X1_digest_16b, if_neg c4, rk, gB1_s, k_wholeOf hK hF h hw (by omega), gB2_s, hash_eq, gB2_s, i3_s]
    exact d_16 hK hF hw h d f (k + 1) (by omega) (by omega)
theorem d_40 (hF : 64 ≤ F) {h0 : Int64} {σ : gS} (h : KM κ B bd σ ω o S) : ∀ (d fuel k : Nat), k + d = 8 → d < fuel → f_X1_digest_40 κ F fuel (some o) (hmr (fun k => vRoot S.1 (k / 4) (k % 4)) h0 k) (Int32.ofNat k) σ = f_X1_digest_72 κ F F (some o) (hmr (fun k => vRoot S.1 (k / 4) (k % 4)) h0 8) (0 : Int32) σ
  | 0, fuel, k, hk, hf => by
    obtain ⟨f, rfl⟩ : ∃ f, fuel = f + 1 := ⟨fuel - 1, by omega⟩
    have hk : k = 8 := by omega
    subst hk
    rw [f_X1_digest_40, f_X1_digest_40b, if_pos (by decide)]
  | d + 1, fuel, k, hk, hf => by
    obtain ⟨f, rfl⟩ : ∃ f, fuel = f + 1 := ⟨fuel - 1, by omega⟩
    have c4 : ¬ ((8 : Int32) ≤ Int32.ofNat k) := by rw [show (8 : Int32) = Int32.ofNat 8 from rfl, i3_le (by omega) (by omega)]; omega
    obtain ⟨t, g, c, r0, rk, hg, hB, _⟩ := km_cur h
    obtain ⟨x1, x2⟩ := i3_dm (k := k) (w := 4) (by omega) (by omega)
    rw [f_X1_digest_40, f_X1_digest_40b, if_neg c4, r0, gB1_s, k_ck hg, gB1_s, L4, x2, x1, k_rootValue hg (by omega) (by omega), gB2_s, hash_eq, gB2_s, i3_s]
    exact d_40 hF h d f (k + 1) (by omega) (by omega)
theorem d_72 {n : Nat} (hF : 64 ≤ F) (hw : WS n S) {h0 : Int64} : ∀ (d fuel k : Nat) (σ : gS), k + d = 12 → d < fuel → KM κ B bd σ ω o S → ∃ σ', f_X1_digest_72 κ F fuel (some o) (hmr (fun k => vReader S.1 (k / 3) (k % 3)) h0 k) (Int32.ofNat k) σ = f_X1_digest_104 κ F F (some o) (hmr (fun k => vReader S.1 (k / 3) (k % 3)) h0 12) (0 : Int32) σ' ∧ ext nT (1 * d) (8 * d) σ ω σ' ω
  | 0, fuel, k, σ, hk, hf, h => by
    obtain ⟨f, rfl⟩ : ∃ f, fuel = f + 1 := ⟨fuel - 1, by omega⟩
    have hk : k = 12 := by omega
    subst hk
    exact ⟨σ, by rw [f_X1_digest_72, f_X1_digest_72b, if_pos (by decide)], ext_refl _ _ _⟩
  | d + 1, fuel, k, σ, hk, hf, h => by
    obtain ⟨f, rfl⟩ : ∃ f, fuel = f + 1 := ⟨fuel - 1, by omega⟩
    have c4 : ¬ ((12 : Int32) ≤ Int32.ofNat k) := by rw [show (12 : Int32) = Int32.ofNat 12 from rfl, i3_le (by omega) (by omega)]; omega
    obtain ⟨t, g, c, r0, rk, hg, hB, _⟩ := km_cur h
    obtain ⟨x1, x2⟩ := i3_dm (k := k) (w := 3) (by omega) (by omega)
    obtain ⟨S1, q1, q2⟩ := k_readerValue (F := F) hg hB hF hw.1 (k := k / 3) (w := k % 3) (by omega) (by omega)
    obtain ⟨S2, r1, r2⟩ := d_72 hF hw (h0 := h0) d f (k + 1) S1 (by omega) (by omega) (km_n h q2)
    refine ⟨S2, ?_, ext_mono (ext_trans q2 r2) (fun _ h => h) (by omega) (by omega)⟩
    rw [f_X1_digest_72, f_X1_digest_72b, if_neg c4, r0, gB1_s, k_ck hg, gB1_s, L3, x2, x1, q1, gB2_s, hash_eq, gB2_s, i3_s]
    exact r1
theorem d_104 (hK : KS κ) (hF : 64 ≤ F) {h0 : Int64} (hF2 : 200 ≤ F) : ∀ (d fuel k : Nat) (σ : gS), k + d = 192 → d < fuel → KM κ B bd σ ω o S → ∃ σ' f', f_X1_digest_104 κ F fuel (some o) (hmr (fun k => vBed S.1 (k / 6) (k % 6)) h0 k) (Int32.ofNat k) σ = f_X1_digest_104b κ F f' (some o) (hmr (fun k => vBed S.1 (k / 6) (k % 6)) h0 192) (192 : Int32) σ' ∧ ext nT (1 * d) (1 * d) σ ω σ' ω
  | 0, fuel, k, σ, hk, hf, h => by
    obtain ⟨f, rfl⟩ : ∃ f, fuel = f + 1 := ⟨fuel - 1, by omega⟩
    have hk : k = 192 := by omega
    subst hk
    exact ⟨σ, _, by rw [f_X1_digest_104]; rfl, ext_refl _ _ _⟩
  | d + 1, fuel, k, σ, hk, hf, h => by
    obtain ⟨f, rfl⟩ : ∃ f, fuel = f + 1 := ⟨fuel - 1, by omega⟩
    have c4 : ¬ ((192 : Int32) ≤ Int32.ofNat k) := by rw [show (192 : Int32) = Int32.ofNat 192 from rfl, i3_le (by omega) (by omega)]; omega
    obtain ⟨t, g, c, r0, rk, hg, hB, _⟩ := km_cur h
    obtain ⟨x1, x2⟩ := i3_dm (k := k) (w := 6) (by omega) (by omega)
    obtain ⟨S1, q1, q2⟩ := k_bedValue (F := F) hg hB hK hF (b := k / 6) (w := k % 6) (by omega) (by omega)
    obtain ⟨S2, f', r1, r2⟩ := d_104 hK hF (h0 := h0) hF2 d f (k + 1) S1 (by omega) (by omega) (km_n h q2)
    refine ⟨S2, f', ?_, ext_mono (ext_trans q2 r2) (fun _ h => h) (by omega) (by omega)⟩
    rw [f_X1_digest_104, f_X1_digest_104b, if_neg c4, r0, gB1_s, k_ck hg, gB1_s, show (6 : Int32) = Int32.ofNat 6 from rfl, x2, x1, q1, gB2_s, hash_eq, gB2_s, i3_s]
    exact r1
theorem d_149 {n : Nat} (hF : 64 ≤ F) (hw : WS n S) {h0 : Int64} {σ : gS} (h : KM κ B bd σ ω o S) {N : Nat} (hN : N ≤ 24) : ∀ (d fuel k : Nat), k + d = 4 * N → d < fuel → ∃ f', f_X1_digest_149 κ F fuel (some o) (hmr (fun k => entry S.1 (dirL S.1 (nowD S.1)) (k / 4) (k % 4)) h0 k) (Int32.ofNat N) (Int32.ofNat k) σ = f_X1_digest_149b κ F f' (some o) (hmr (fun k => entry S.1 (dirL S.1 (nowD S.1)) (k / 4) (k % 4)) h0 (4 * N)) (Int32.ofNat N) (Int32.ofNat (4 * N)) σ
  | 0, fuel, k, hk, hf => by
    obtain ⟨f, rfl⟩ : ∃ f, fuel = f + 1 := ⟨fuel - 1, by omega⟩
    have hk : k = 4 * N := by omega
    subst hk
    exact ⟨_, by rw [f_X1_digest_149]⟩
  | d + 1, fuel, k, hk, hf => by
    obtain ⟨f, rfl⟩ : ∃ f, fuel = f + 1 := ⟨fuel - 1, by omega⟩
    have c4 : ¬ (Int32.ofNat N * Int32.ofNat 4 ≤ Int32.ofNat k) := by rw [i3_mul, i3_le (by omega) (by omega)]; omega
    obtain ⟨t, g, c, r0, rk, hg, hB, _⟩ := km_cur h
    obtain ⟨x1, x2⟩ := i3_dm (k := k) (w := 4) (by omega) (by omega)
    obtain ⟨f', r1⟩ := d_149 hF hw (h0 := h0) h hN d f (k + 1) (by omega) (by omega)
    refine ⟨f', ?_⟩
    rw [f_X1_digest_149, f_X1_digest_149b, L4, if_neg c4, r0, gB1_s, k_ck hg, gB1_s, x2, x1, k_entryValue hg hB hF hw.1 (by omega) (by omega), gB2_s, hash_eq, gB2_s, i3_s]
    exact r1
theorem d_draft {n : Nat} (hT : KT κ) (hF : 64 ≤ F) (hw : WS n S) {h0 : Int64} {σ : gS} (h : KM κ B bd σ ω o S) (hd : isDr S.1 = true) : ∀ (d fuel k : Nat), k + d = 100 → d < fuel → f_X1_hashDraft_5 κ F fuel (some o) (hmr (fun k => valBy S.1 (drD S.1) (Int32.ofNat k)) h0 k) (Int32.ofNat k) σ = some (.inl (hmr (fun k => valBy S.1 (drD S.1) (Int32.ofNat k)) h0 100), σ)
  | 0, fuel, k, hk, hf => by
    obtain ⟨f, rfl⟩ : ∃ f, fuel = f + 1 := ⟨fuel - 1, by omega⟩
    have hk : k = 100 := by omega
    subst hk
    rw [f_X1_hashDraft_5, f_X1_hashDraft_5b, if_pos (by decide), f_X1_hashDraft_42]
  | d + 1, fuel, k, hk, hf => by
    obtain ⟨f, rfl⟩ : ∃ f, fuel = f + 1 := ⟨fuel - 1, by omega⟩
    have c4 : ¬ ((100 : Int32) ≤ Int32.ofNat k) := by rw [show (100 : Int32) = Int32.ofNat 100 from rfl, i3_le (by omega) (by omega)]; omega
    obtain ⟨t, g, c, r0, rk, hg, hB, _⟩ := km_cur h
    rw [f_X1_hashDraft_5, f_X1_hashDraft_5b, if_neg c4, r0, gB1_s, k_f6 hg, gB1_s, if_neg (fun e => by rw [(k_drn hg).mp e] at hd; cases hd), gB1_s, k_ck hg, gB1_s, k_drafted hg hB hT hF hw.1, hd, if_pos rfl, if_pos rfl, gB3_l, hash_eq, gB2_s, i3_s]
    exact d_draft hT hF hw h hd d f (k + 1) (by omega) (by omega)
theorem x_digest {n : Nat} {σ : gS} (hK : KS κ) (hT : KT κ) (hF : 200 ≤ F) (h : KM κ B bd σ ω o S) (hw : WS n S) : ∃ σ', f_X1_digest κ F (some o) σ = some (.inl (spDigest S), σ') ∧ ext nT 400 400 σ ω σ' ω ∧ KM κ B bd σ' ω o S := by
  have hsz : gB1 (gfR σ (some o) 0 1) (fun v1 => gB1 (gck σ v1 13) fun _ => f_J25_size κ F v1 σ) = some (Int32.ofNat S.2.1.length, σ) := by
    obtain ⟨t, g, c, sv, cm, fc, L, h1, h2, h3, h4, h5, h6, h7, h8, h9, h10⟩ := h
    have r1 : gfR σ (some o) 0 1 = some (some sv) := by rw [gfR_u, h1.1]; rfl
    obtain ⟨z1, z2⟩ := al_size (F := F) h4
    rw [List.length_map, SL_len h5] at z1
    rw [r1, gB1_s, z2, gB1_s, z1]
  have h24 := ents_24 hw.1
  have h16 := d_16 (F := F) hK (by omega) hw (h0 := hmr (fun _ => Int32.ofNat S.2.1.length) 43518 1) h 15 F 0 (by omega) (by omega)
  have h40 := d_40 (F := F) (by omega) (h0 := hmr (vTellS S) (hmr (fun _ => Int32.ofNat S.2.1.length) 43518 1) 15) h 8 F 0 (by omega) (by omega)
  obtain ⟨S1, h72, e1⟩ := d_72 (F := F) (by omega) hw (h0 := hmr (fun k => vRoot S.1 (k / 4) (k % 4)) (hmr (vTellS S) (hmr (fun _ => Int32.ofNat S.2.1.length) 43518 1) 15) 8) 12 F 0 σ (by omega) (by omega) h
  have k1 := km_n h e1
  obtain ⟨S2, f', h104, e2⟩ := d_104 (F := F) hK (by omega) (h0 := hmr (fun k => vReader S.1 (k / 3) (k % 3)) (hmr (fun k => vRoot S.1 (k / 4) (k % 4)) (hmr (vTellS S) (hmr (fun _ => Int32.ofNat S.2.1.length) 43518 1) 15) 8) 12) hF 192 F 0 S1 (by omega) (by omega) k1
  have k2 := km_n k1 e2
  obtain ⟨f'', h149⟩ := d_149 (F := F) (by omega) hw (h0 := hmr (fun k => vBed S.1 (k / 6) (k % 6)) (hmr (fun k => vReader S.1 (k / 3) (k % 3)) (hmr (fun k => vRoot S.1 (k / 4) (k % 4)) (hmr (vTellS S) (hmr (fun _ => Int32.ofNat S.2.1.length) 43518 1) 15) 8) 12) 192) k2 h24 (4 * entsBy S.1 (dirL S.1 (nowD S.1))) F 0 (by omega) (by omega)
  obtain ⟨t, g, c, r0, rk, hg, hB, _⟩ := km_cur k2
  refine ⟨S2, ?_, ext_mono (ext_trans e1 e2) (fun _ h => h) (by omega) (by omega), k2⟩
  have hv : f_X3_value κ F (some g) (5 : Int32) S2 = some (Int32.ofNat (entsBy S.1 (dirL S.1 (nowD S.1))), S2) := k_value hg hB hK (by omega) hw.1 (w := 5) (by omega)
  have hdr : ∀ h0 : Int64, f_X1_hashDraft κ F (some o) h0 S2 = some (.inl (hmr (fun k => valBy S.1 (drD S.1) (Int32.ofNat k)) h0 (if isDr S.1 then 100 else 0)), S2) := fun h0 => by
    rw [f_X1_hashDraft, f_X1_hashDraft_0]
    cases hd : isDr S.1 with
    | true => exact d_draft hT (by omega) hw k2 hd 100 F 0 (by omega) (by omega)
    | false =>
      obtain ⟨f, hf⟩ : ∃ f, F = f + 1 := ⟨F - 1, by omega⟩
      rw [show f_X1_hashDraft_5 κ F F (some o) h0 0 S2 = f_X1_hashDraft_5 κ F (f + 1) (some o) h0 0 S2 from by rw [← hf], f_X1_hashDraft_5, f_X1_hashDraft_5b, if_neg (by decide), r0, gB1_s, k_f6 hg, gB1_s, if_pos ((k_drn hg).mpr hd), f_X1_hashDraft_42]
      rfl
  have hstart : f_X1_digest κ F (some o) σ = f_X1_digest_16 κ F F (some o) (hmr (vTellS S) (hmr (fun _ => Int32.ofNat S.2.1.length) 43518 1) 0) (0 : Int32) σ := by
    rw [f_X1_digest, f_X1_digest_0]
    obtain ⟨t, g, c, sv, cm, fc, L, h1, h2, h3, h4, h5, h6, h7, h8, h9, h10⟩ := h
    have r1 : gfR σ (some o) 0 1 = some (some sv) := by rw [gfR_u, h1.1]; rfl
    obtain ⟨z1, z2⟩ := al_size (F := F) h4
    rw [List.length_map, SL_len h5] at z1
    rw [r1, gB1_s, z2, gB1_s, z1, gB2_s, hash_eq, gB2_s]
    rfl
  rw [hstart]
  refine (h16.trans (h40.trans (h72.trans (h104.trans ?_))))
  rw [f_X1_digest_104b, if_pos (by decide), r0, gB1_s, k_ck hg, gB1_s, hv, gB2_s]
  refine h149.trans ?_
  rw [f_X1_digest_149b, if_pos (by rw [L4, i3_mul, i3_le (by omega) (by omega)]; omega), r0, gB1_s, k_ck hg, gB1_s, k_nextBed hg hK (by omega), gB2_s, hash_eq, gB2_s, rk, gB1_s, hdr, gB3_l]
  rfl
end C
