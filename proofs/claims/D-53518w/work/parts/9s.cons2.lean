set_option maxRecDepth 100000
/-! the first garden -/
section C
variable {κ : gK} {B : Nat → Nat} {bd : Nat} {F : Nat} {σ : gS} {ω : Nat → Nat} {t : Nat}
def hT16 (y : Nat) : Prop := 16 ≤ y
theorem h16 {k n m : Nat} {S S' : gS} {w w' : Nat → Nat} (e : ext (fun y => y = 16 + k) n m S w S' w') : ext hT16 n m S w S' w' := ext_mono e (fun y h => by have h : y = 16 + k := h; show 16 ≤ y; omega) (Nat.le_refl _) (Nat.le_refl _)
theorem h16_0 : ¬ hT16 0 := by show ¬ (16 ≤ 0); omega
theorem k_first (hF : 64 ≤ F) (hb : κ.1 ≤ σ.2.1) (hω : ∀ a, a < σ.2.1 → ω a < 13) : ∃ S w B bd g c, f_X1_first κ F σ = some (some g, S) ∧ ext nT 60 400 σ ω S w ∧ BD κ B bd S w ∧ GR κ B bd S w 16 g c A00 ∧ σ.2.1 ≤ g := by
  obtain ⟨S0, w0, B, k', r0, e0, hB⟩ := k_beds (F := F) (ω := ω) hF hb (fun a ha => by have := hω a ha; omega)
  have hbd := e0.1
  generalize σ.2.1 = bd at hB r0 hbd ⊢
  have hb0 := ext_21 (κ := κ) e0 hb
  have c0 : (32 : Int32) ≤ (32 : Int32) := by decide
  -- the garden's cell
  obtain ⟨g1, e1⟩ := push_new (κ := κ) (ω := w0) (16 + 0) hb0 (.inr (7, g0_X3)) 9
  have n1 : gnw S0 7 g0_X3 9 = some (some S0.2.1, gpush S0 (.inr (7, g0_X3)) 9) := rfl
  have hb1 := ext_21 (κ := κ) e1 hb0
  have B1 := BD_n hB e1
  have E1 : ext hT16 1 9 S0 w0 _ _ := nT_le e1 (Nat.le_refl _) (Nat.le_refl _)
  generalize gpush S0 (.inr (7, g0_X3)) 9 = S1 at n1 g1 hb1 B1 E1
  generalize own w0 S0.2.1 (16 + 0) = w1 at g1 B1 E1
  -- freedWith
  obtain ⟨f2, e2⟩ := push_new (κ := κ) (ω := w1) (16 + 5) hb1 (.inl (0, gz 0 32)) 32
  have n2 : gna S1 0 (32 : Int32) = some (some S1.2.1, gpush S1 (.inl (0, gz 0 32)) 32) := gna_s S1 (t := 0) (k := 32) (by decide)
  have hb2 := ext_21 (κ := κ) e2 hb1
  have B2 := BD_n B1 e2
  have g2 := oc_mv g1 e2 (fun h => h)
  have E2 : ext hT16 2 41 S0 w0 _ _ := ext_mono (ext_trans E1 (nT_le e2 (Nat.le_refl _) (Nat.le_refl _))) (fun _ h => h) (by omega) (by omega)
  generalize gpush S1 (.inl (0, gz 0 32)) 32 = S2 at n2 f2 hb2 B2 g2 E2
  generalize own w1 S1.2.1 (16 + 5) = w2 at f2 B2 g2 E2
  have f2 : oc κ S2 w2 (16 + 5) S1.2.1 (.inl (0, 32, .inl (fun _ => 0))) := f2
  -- the roots' row
  obtain ⟨t3, e3⟩ := push_new (κ := κ) (ω := w2) (16 + 6) hb2 (.inl (5, gz 5 2)) 2
  have n3 : gna S2 5 (2 : Int32) = some (some S2.2.1, gpush S2 (.inl (5, gz 5 2)) 2) := gna_s S2 (t := 5) (k := 2) (by decide)
  have hb3 := ext_21 (κ := κ) e3 hb2
  have B3 := BD_n B2 e3
  have g3 := oc_mv g2 e3 (fun h => h)
  have f3 := oc_mv f2 e3 (fun h => h)
  have E3 : ext hT16 3 43 S0 w0 _ _ := ext_mono (ext_trans E2 (nT_le e3 (Nat.le_refl _) (Nat.le_refl _))) (fun _ h => h) (by omega) (by omega)
  generalize gpush S2 (.inl (5, gz 5 2)) 2 = S3 at n3 t3 hb3 B3 g3 f3 E3
  generalize own w2 S2.2.1 (16 + 6) = w3 at t3 B3 g3 f3 E3
  have t3 : oc κ S3 w3 (16 + 6) S2.2.1 (.inl (5, 2, rA (fun _ => none))) := t3
  -- the first root
  obtain ⟨S4, w4, n4, e4, p4⟩ := k_X4new (F := F) (ω := w3) (v := 16 + 7) hb3 1 0 1 (by decide)
  have p4 : oc κ S4 w4 (16 + 7) S3.2.1 (rCell (aRt A00 0)) := p4
  have hb4 := ext_21 (κ := κ) e4 hb3
  have B4 := BD_n B3 e4
  have g4 := oc_mv g3 e4 (fun h => h)
  have f4 := oc_mv f3 e4 (fun h => h)
  have t4 := oc_mv t3 e4 (fun h => h)
  obtain ⟨n5, e5, t5⟩ := row_put t4 p4 (k := 0) (by omega)
  have B5 := BD_mv B4 e5 (by decide)
  have g5 := oc_mv g4 e5 (by decide)
  have f5 := oc_mv f4 e5 (by decide)
  have p5 := oc_mv p4 e5 (by decide)
  have hb5 := ext_21 (κ := κ) e5 hb4
  have E5 : ext hT16 4 46 S0 w0 _ _ := ext_mono (ext_trans E3 (ext_trans (nT_le e4 (Nat.le_refl _) (Nat.le_refl _)) (h16 e5))) (fun _ h => h) (by omega) (by omega)
  generalize gup S4 S2.2.1 (.inl (5, 2, rA (va_up (fun _ => none) 0 (some S3.2.1)))) = S5 at n5 t5 B5 g5 f5 p5 hb5 E5
  have n5 : gsR κ S4 (some S2.2.1) (0 : Int32) (some S3.2.1) = some S5 := n5
  -- the second root
  obtain ⟨S6, w6, n6, e6, p6⟩ := k_X4new (F := F) (ω := w4) (v := 16 + 8) hb5 0 (-1000) 0 (by decide)
  have p6 : oc κ S6 w6 (16 + 8) S5.2.1 (rCell (aRt A00 1)) := p6
  have hb6 := ext_21 (κ := κ) e6 hb5
  have B6 := BD_n B5 e6
  have g6 := oc_mv g5 e6 (fun h => h)
  have f6 := oc_mv f5 e6 (fun h => h)
  have t6 := oc_mv t5 e6 (fun h => h)
  have p66 := oc_mv p5 e6 (fun h => h)
  obtain ⟨n7, e7, t7⟩ := row_put t6 p6 (k := 1) (by omega)
  have B7 := BD_mv B6 e7 (by decide)
  have g7 := oc_mv g6 e7 (by decide)
  have f7 := oc_mv f6 e7 (by decide)
  have p7 := oc_mv p66 e7 (by decide)
  have q7 := oc_mv p6 e7 (by decide)
  have E7 : ext hT16 5 49 S0 w0 _ _ := ext_mono (ext_trans E5 (ext_trans (nT_le e6 (Nat.le_refl _) (Nat.le_refl _)) (h16 e7))) (fun _ h => h) (by omega) (by omega)
  generalize gup S6 S2.2.1 (.inl (5, 2, rA (va_up (va_up (fun _ => none) 0 (some S3.2.1)) 1 (some S5.2.1)))) = S7 at n7 t7 B7 g7 f7 p7 q7 E7
  have n7 : gsR κ S6 (some S2.2.1) (1 : Int32) (some S5.2.1) = some S7 := n7
  -- the garden's constructor
  obtain ⟨S8, w8, c, f, n8, c1, c2, c3, c4, c5, g8, m8, s8, x8, y8, e8⟩ := k_init (F := F) (B := B) (bd := bd) (t := 16) (fw := S1.2.1) (rt := S2.2.1) hF (by omega) g7 S3.2.1 S5.2.1 A00
  have e8' : ext hT16 3 48 S7 w6 S8 w8 := ext_mono e8 (fun y h => by show 16 ≤ y; omega) (Nat.le_refl _) (Nat.le_refl _)
  have nt : ∀ {k : Nat}, k = 5 ∨ k = 6 ∨ k = 7 ∨ k = 8 → ¬ ((fun y => y = 16 + 0 ∨ y = 16 + 1 ∨ y = 16 + 4) (16 + k)) := fun {k} h e => by
    have e : 16 + k = 16 + 0 ∨ 16 + k = 16 + 1 ∨ 16 + k = 16 + 4 := e
    omega
  have B8 := BD_mv B7 e8' h16_0
  have f8 := oc_mv f7 e8 (nt (by omega))
  have t8 := oc_mv t7 e8 (nt (by omega))
  have p8 := oc_mv p7 e8 (nt (by omega))
  have q8 := oc_mv q7 e8 (nt (by omega))
  have E8 : ext hT16 8 97 S0 w0 S8 w8 := ext_mono (ext_trans E7 e8') (fun _ h => h) (by omega) (by omega)
  -- bed 0 is used
  have s9 := oc_sR (v := κ.2 1) s8 (by omega) (show 0 < 32 by omega) (by omega) (gokR_s (s := 1) (by omega))
  have e9 := oc_ext_up s8 (.inl (4, 32, rA (va_up f 0 (κ.2 1)))) (fun y => y = 16 + 4) rfl
  have u9 := oc_up s8 (.inl (4, 32, rA (va_up f 0 (κ.2 1))))
  have B9 := BD_mv B8 e9 (by decide)
  have g9 := oc_mv g8 e9 (by decide)
  have f9 := oc_mv f8 e9 (by decide)
  have t9 := oc_mv t8 e9 (by decide)
  have p9 := oc_mv p8 e9 (by decide)
  have q9 := oc_mv q8 e9 (by decide)
  have y9 := oc_mv y8 e9 (by decide)
  have m9 := LM_mv m8 e9 (by decide) (by decide)
  have hb9 := ext_21 (κ := κ) e9 (ext_21 (κ := κ) E8 hb0)
  have E9 : ext hT16 8 97 S0 w0 _ _ := ext_mono (ext_trans E8 (h16 e9)) (fun _ h => h) (by omega) (by omega)
  have s9 : gsR κ S8 (some (c_st c)) (0 : Int32) (κ.2 1) = some (gup S8 (c_st c) (.inl (4, 32, rA (va_up f 0 (κ.2 1))))) := s9
  generalize gup S8 (c_st c) (.inl (4, 32, rA (va_up f 0 (κ.2 1)))) = S9 at s9 u9 B9 g9 f9 t9 p9 q9 y9 m9 hb9 E9
  -- the directory
  obtain ⟨d10, e10⟩ := push_new (κ := κ) (ω := w8) 0 hb9 (.inr (3, g0_X5)) 1
  have n10 : gnw S9 3 g0_X5 1 = some (some S9.2.1, gpush S9 (.inr (3, g0_X5)) 1) := rfl
  have hb10 := ext_21 (κ := κ) e10 hb9
  generalize gpush S9 (.inr (3, g0_X5)) 1 = S10 at n10 d10 e10 hb10
  generalize own w8 S9.2.1 0 = w10 at d10 e10
  obtain ⟨d11, e11⟩ := push_new (κ := κ) (ω := w10) 0 hb10 (.inl (0, gz 0 0)) 0
  have n11 : gna S10 0 (0 : Int32) = some (some S10.2.1, gpush S10 (.inl (0, gz 0 0)) 0) := gna_s S10 (t := 0) (k := 0) (by decide)
  have d10' := oc_mv d10 e11 (fun h => h)
  have E11 : ext nT 2 1 S9 w8 _ _ := ext_mono (ext_trans e10 e11) (fun _ h => h) (by omega) (by omega)
  generalize gpush S10 (.inl (0, gz 0 0)) 0 = S11 at n11 d11 d10' E11
  generalize own w10 S10.2.1 0 = w11 at d11 d10' E11
  have s12 := oc_pf (v := .ref S10.2.1) d10' (show 0 < g0_X5.length by decide)
  have d12 := oc_up d10' (.inr (3, [.ref S10.2.1]))
  have d12' := oc_up_ne d11 (oc_ne d11 d10' (by intro e; cases e)) (.inr (3, [.ref S10.2.1]))
  have E12 := fresh_gup (d := .inr (3, [.ref S10.2.1])) E11 (Nat.le_refl _)
  have s12 : gpf κ S11 (some S9.2.1) 3 0 (va_rf (some S10.2.1)) = some (gup S11 S9.2.1 (.inr (3, [.ref S10.2.1]))) := s12
  generalize gup S11 S9.2.1 (.inr (3, [.ref S10.2.1])) = S12 at s12 d12 d12' E12
  have hpg : PG κ S12 w11 S9.2.1 (.inr []) := ⟨S10.2.1, fun _ => 0, d12, d12', fun i hi => absurd hi (Nat.not_lt_zero _)⟩
  have B12 := BD_n B9 E12
  have g12 := oc_mv g9 E12 (fun h => h)
  have m12 := LM_mv m9 E12 (fun h => h) (fun h => h)
  obtain ⟨S13, w13, L, n13, e13, m13, v13⟩ := k_layR (F := F) (b := 0) (a := S9.2.1) g12 B12 hF m12 (by omega) (Or.inl rfl)
  have X13 : ∀ {u a : Nat} {c : gC}, oc κ S9 w8 u a c → u ≠ 16 + 1 → oc κ S13 w13 u a c := fun h hu => oc_mv (oc_mv h E12 (fun h => h)) e13 hu
  have B13 := BD_mv B12 e13 (by decide)
  have E13 : ext hT16 13 184 S0 w0 S13 w13 := ext_mono (ext_trans E9 (ext_trans (nT_le E12 (Nat.le_refl _) (Nat.le_refl _)) (h16 e13))) (fun _ h => h) (by omega) (by omega)
  have EE : ext nT 60 400 σ ω S13 w13 := by
    have E0 : ext (fun x => hT16 x ∨ nT x) 46 248 σ ω S13 w13 := ext_trans (ext_mono e0 (T' := fun x => hT16 x ∨ nT x) (fun _ h => h.elim) (Nat.le_refl _) (Nat.le_refl _)) (ext_mono E13 (fun _ h => Or.inl h) (Nat.le_refl _) (Nat.le_refl _))
    exact ext_mono (ext_drop E0 (fun a ha h => by have h1 := hω a ha; have h2 : 16 ≤ ω a := h; omega)) (fun _ h => h) (by omega) (by omega)
  refine ⟨S13, w13, B, bd, S0.2.1, c, ?_, EE, B13, ⟨?_, ⟨_, X13 u9 (by decide), fun b hb => ?_⟩, ⟨fun _ => 0, by rw [c1]; exact X13 f9 (by decide), fun b hb => ?_⟩, ⟨_, by rw [c2]; exact X13 t9 (by decide), ?_, ?_, by rw [c3]; exact X13 p9 (by decide), by rw [c4]; exact X13 q9 (by decide)⟩, ⟨_, X13 y9 (by decide), fun k hk => rfl⟩, ⟨L, m13, fun b hb => ?_⟩, c5, fun b hb => ?_⟩, hbd⟩
  · have y1 : gfR S8 (some S0.2.1) 7 1 = some (some (c_st c)) := by rw [gfR_u, g8.1]; rfl
    have y2 : gck S12 (some S0.2.1) 7 = some () := by rw [gck_u, g12.1]; rfl
    rw [r0, f_X1_first_8b, if_pos c0, n1, gB2_s, n2, gB2_s, n3, gB2_s]
    show gB2 (some (some S3.2.1, gpush S3 (.inr (4, g0_X4)) 3)) _ = _
    rw [gB2_s, gsm_s, gB1_s, n4, gB2_s, n5, gB1_s]
    show gB2 (some (some S5.2.1, gpush S5 (.inr (4, g0_X4)) 3)) _ = _
    rw [gB2_s, gsm_s, gB1_s, n6, gB2_s, n7, gB1_s, gsm_s, gB1_s, n8, gB2_s, y1, gB1_s, s9, gB1_s, n10, gB2_s, n11, gB2_s, gsm_s, gB1_s, f_X5_init, f_X5_init_0, gsm_s, gB1_s, s12, gB1_s, gB2_s, y2, gB1_s]
    show gB2 (f_X3_lay κ F (some S0.2.1) (Int32.ofNat 0) (some S9.2.1) S12) _ = _
    rw [n13, gB2_s]
  · exact X13 g9 (by decide)
  · show va_up f 0 (κ.2 1) b = κ.2 (if b = 0 then (1, _, _) else (0, _, _) : Nat × Pg × Int32).1
    by_cases e : b = 0
    · rw [e, vup_at]; rfl
    · rw [vup_ne e, x8 b hb, if_neg e]
  · show (0 : Int32) = (if b = 0 then (1, _, 0) else (0, _, 0) : Nat × Pg × Int32).2.2
    by_cases e : b = 0
    · rw [if_pos e]
    · rw [if_neg e]
  · rw [c3]; rfl
  · rw [c4]; rfl
  · show if (if b = 0 then (1, _, _) else (0, _, _) : Nat × Pg × Int32).1 = 0 then _ else _
    by_cases e : b = 0
    · rw [e, if_pos rfl, if_neg (by decide)]
      exact ⟨S9.2.1, by rw [v13, if_pos rfl], PG_mv hpg e13 (by decide)⟩
    · rw [if_neg e, if_pos rfl, v13, if_neg e]
      rfl
  · show (if b = 0 then (1, _, _) else (0, _, _) : Nat × Pg × Int32).1 < 3
    by_cases e : b = 0
    · rw [if_pos e]; decide
    · rw [if_neg e]; decide
end C
