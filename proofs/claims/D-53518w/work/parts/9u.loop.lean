set_option maxRecDepth 100000
/-! THE LAW'S LOOP, and the law whole -/
section C
variable {κ : gK} {B : Nat → Nat} {bd : Nat} {F : Nat} {H : gS} {ω : Nat → Nat} {b n : Nat} {fs : Nat → Int32} {x m out N : Nat} {S : aS}
theorem l_end (h : KL κ B bd H ω b n fs x m out N S) (hn : n ≤ 192) {j : Nat} (hj : n < 3 * j + 3 ∧ 3 * j ≤ n) (h1 : H.2.1 ≤ κ.1 + 1200384) (h2 : H.2.2 ≤ 5487786) (k23) : f_L_law_23b κ F k23 (some b) (some x) (some m) (some out) (Int32.ofNat (3 * j)) H = some (1, H) := by
  have g0 : glX H (some b) = some (Int32.ofNat n) := glX_s h.1
  have g1 : Int32.ofNat n - (3 : Int32) < Int32.ofNat (3 * j) := by
    by_cases c : 3 ≤ n
    · rw [show (3 : Int32) = Int32.ofNat 3 from rfl, i3_sub c, i3_lt (by omega) (by omega)]; omega
    · have hj0 : j = 0 := by omega
      subst hj0
      match n, c with
      | 0, _ => decide
      | 1, _ => decide
      | 2, _ => decide
      | n + 3, c => omega
  have g2 : glb κ H = some () := by unfold glb; rw [if_pos ⟨h1, h2⟩]
  rw [f_L_law_23b, g0, gB1_s, if_pos g1, gok_z1, gB1_s, g2, gB1_s]
theorem l_loop (hK : KS κ) (hT : KT κ) (hF : 1500 ≤ F) (hn : n ≤ 192) : ∀ (d fuel j N : Nat) (S : aS) (H : gS) (ω : Nat → Nat), j + d = n / 3 → d < fuel → N + 151 * d ≤ 700000 → KL κ B bd H ω b n fs x m out N S → H.2.1 + 5000 * d ≤ κ.1 + 1200384 → H.2.2 + 60000 * d ≤ 5487786 →
    ∃ H', f_L_law_23 κ F fuel (some b) (some x) (some m) (some out) (Int32.ofNat (3 * j)) H = some (1, H')
  | 0, fuel, j, N, S, H, ω, hj, hf, hN, h, b1, b2 => by
    obtain ⟨f1, rfl⟩ : ∃ f, fuel = f + 1 := ⟨fuel - 1, by omega⟩
    exact ⟨H, by rw [f_L_law_23]; exact l_end h hn (by omega) (by omega) (by omega) _⟩
  | d + 1, fuel, j, N, S, H, ω, hj, hf, hN, h, b1, b2 => by
    obtain ⟨f1, rfl⟩ : ∃ f, fuel = f + 1 := ⟨fuel - 1, by omega⟩
    obtain ⟨S', H2, ω2, q1, q2, q3⟩ := l_iter hK hT hF hn (j := j) (by omega) (by omega) h
    obtain ⟨H', r⟩ := l_loop hK hT hF hn d f1 (j + 1) (N + 151) S' H2 ω2 (by omega) (by omega) (by omega) q3 (by have := q2.2.1; omega) (by have := q2.2.2.2.1; omega)
    exact ⟨H', by rw [f_L_law_23]; exact (q1 _).trans r⟩
/-- the law -/
theorem law_true {σ : gS} (hK : KS κ) (hT : KT κ) (hF : 1500 ≤ F) (hn : n ≤ 192) (hb : κ.1 ≤ σ.2.1) (hω : ∀ a, a < σ.2.1 → ω a = 0) (hQ : KQ κ σ ω) (hs : cS σ ω b (.inl (9, n, .inl fs))) (b1 : σ.2.1 ≤ κ.1 + 1000) (b2 : σ.2.2 ≤ 1000) : ∃ H', f_L_law κ F (some b) σ = some (1, H') := by
  obtain ⟨S1, w1, B, bd, q1, e1, k1⟩ := x_init (F := F) (by omega) hb hω hQ
  have c1 := cS_mv hs e1 (fun h => h)
  have hb1 := ext_21 (κ := κ) e1 hb
  obtain ⟨S2, w2, q2, e2, m2⟩ := q_init (F := F) (ω := w1) hb1
  have c2 := cS_mv c1 e2 (by decide)
  have k2 := KM_mv k1 e2 (fun y hy => Or.inl hy)
  have hb2 := ext_21 (κ := κ) e2 hb1
  obtain ⟨p3, e3⟩ := push_new (κ := κ) (ω := w2) 6 hb2 (.inl (1, gz 1 1)) 1
  have n3 : gna S2 1 (1 : Int32) = some (some S2.2.1, gpush S2 (.inl (1, gz 1 1)) 1) := gna_s S2 (t := 1) (k := 1) (by decide)
  have p3 : oc κ (gpush S2 (.inl (1, gz 1 1)) 1) _ 6 S2.2.1 (.inl (1, 1, .inr (.inl (fun _ => 0)))) := p3
  have E : ext (fun y => y = 5) 108 3801 σ ω (gpush S2 (.inl (1, gz 1 1)) 1) _ := ext_mono (ext_trans (nT_le e1 (Nat.le_refl _) (Nat.le_refl _)) (ext_trans e2 (nT_le e3 (Nat.le_refl _) (Nat.le_refl _)))) (fun _ h => h) (by omega) (by omega)
  have hK0 : KL κ B bd (gpush S2 (.inl (1, gz 1 1)) 1) _ b n fs σ.2.1 S1.2.1 S2.2.1 1 S00 := ⟨cS_mv c2 e3 (fun h => h), KM_mv k2 e3 (fun _ h => h.elim), ⟨V00, MM_00, MC_mv m2 e3 (fun h => h)⟩, ⟨_, p3⟩, WS_00, hb1⟩
  obtain ⟨x1, x2, x3, x4, _⟩ := E
  obtain ⟨H', r⟩ := l_loop hK hT hF hn (n / 3) F 0 1 S00 _ _ (by omega) (by omega) (by omega) hK0 (by omega) (by omega)
  refine ⟨H', ?_⟩
  rw [f_L_law, f_L_law_0]
  show gB2 (some (some σ.2.1, gpush σ (.inr (0, g0_X1)) 4)) _ = _
  rw [gB2_s, gsm_s, gB1_s, q1, gB2_s]
  show gB2 (some (some S1.2.1, gpush S1 (.inr (9, g0_X6)) 13)) _ = _
  rw [gB2_s, gsm_s, gB1_s, q2, gB2_s, n3, gB2_s]
  exact r
end C
