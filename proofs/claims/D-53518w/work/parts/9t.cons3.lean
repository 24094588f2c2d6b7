set_option maxRecDepth 100000
/-! the two constructors, whole -/
def S00 : aS := (A00, [], [])
section C
variable {κ : gK} {F : Nat} {σ : gS} {ω : Nat → Nat}
/-- a field of the object is set -/
theorem set_g {S : gS} {w : Nat → Nat} {u g' ci : Nat} {fs : List Value} (k : Nat) (v : Value) (h : oc κ S w u g' (.inr (ci, fs))) (hk : k < fs.length) : ∃ S', gpf κ S (some g') ci k v = some S' ∧ ext (fun y => y = u) 0 0 S w S' w ∧ oc κ S' w u g' (.inr (ci, fs.set k v)) ∧ S' = gup S g' (.inr (ci, fs.set k v)) := ⟨_, oc_pf h hk v, oc_ext_up h _ _ rfl, oc_up h _, rfl⟩
theorem x_init (hF : 64 ≤ F) (hb : κ.1 ≤ σ.2.1) (hω : ∀ a, a < σ.2.1 → ω a = 0) (hQ : KQ κ σ ω) : ∃ S w B bd, f_X1_init κ F (some σ.2.1) (gpush σ (.inr (0, g0_X1)) 4) = some ((), S) ∧ ext nT 100 800 σ ω S w ∧ KM κ B bd S w σ.2.1 S00 := by
  obtain ⟨o1, e1⟩ := push_new (κ := κ) (ω := ω) 1 hb (.inr (0, g0_X1)) 4
  have hb1 := ext_21 (κ := κ) e1 hb
  have Q1 := KQ_mv hQ e1 (fun h => h)
  have hω1 : ∀ a, a < (gpush σ (.inr (0, g0_X1)) 4).2.1 → own ω σ.2.1 1 a < 2 := fun a ha => by
    have ha : a < σ.2.1 + 1 := ha
    unfold own
    by_cases c : a < σ.2.1
    · rw [if_pos c, hω a c]; omega
    · rw [if_neg c]; omega
  have E1 : ext (fun y => y = 1) 1 4 σ ω _ _ := nT_le e1 (Nat.le_refl _) (Nat.le_refl _)
  generalize gpush σ (.inr (0, g0_X1)) 4 = S1 at o1 hb1 Q1 hω1 E1 ⊢
  generalize own ω σ.2.1 1 = w1 at o1 Q1 hω1 E1
  -- the garden
  obtain ⟨S2, w2, B, bd, g, c, n2, e2, B2, G2, g2⟩ := k_first (F := F) (ω := w1) hF hb1 (fun a ha => by have := hω1 a ha; omega)
  have o2 := oc_mv o1 e2 (fun h => h)
  have Q2 := KQ_mv Q1 e2 (fun h => h)
  obtain ⟨S3, s3, e3, o3, _⟩ := set_g 0 (va_rf (some g)) o2 (show 0 < g0_X1.length by decide)
  have o3 : oc κ S3 w2 1 σ.2.1 (.inr (0, [.ref g, .null, .null, .int 0])) := o3
  have T1 : ∀ y, gU 16 y → ¬ ((fun y => y = 1) y) := fun y hy e => by have h1 := hy.1; have e : y = 1 := e; omega
  have B3 := BD_mv B2 e3 (by decide)
  have G3 := GR_mv G2 e3 T1 (by decide)
  have Q3 := KQ_mv Q2 e3 (by decide)
  have E3 : ext (fun y => y = 1) 61 404 σ ω S3 w2 := ext_mono (ext_trans E1 (ext_trans (nT_le e2 (Nat.le_refl _) (Nat.le_refl _)) e3)) (fun _ h => h) (by omega) (by omega)
  have hb3 := ext_21 (κ := κ) E3 hb
  -- the list
  obtain ⟨l4, e4⟩ := push_new (κ := κ) (ω := w2) 2 hb3 (.inr (13, g0_J25)) 3
  have n4 : gnw S3 13 g0_J25 3 = some (some S3.2.1, gpush S3 (.inr (13, g0_J25)) 3) := rfl
  have o4 := oc_mv o3 e4 (fun h => h)
  have B4 := BD_n B3 e4
  have G4 := GR_n G3 e4
  have Q4 := KQ_mv Q3 e4 (fun h => h)
  generalize gpush S3 (.inr (13, g0_J25)) 3 = S4 at l4 n4 o4 B4 G4 Q4 e4
  generalize own w2 S3.2.1 2 = w4 at l4 o4 B4 G4 Q4 e4
  obtain ⟨S5, s5, e5, l5, _⟩ := set_g 0 (.int 0) l4 (show 0 < g0_J25.length by decide)
  obtain ⟨S6, s6, e6, l6, _⟩ := set_g 1 (va_rf (κ.2 4)) l5 (by rw [List.length_set]; decide)
  have e6' : ext (fun y => y = 2) 0 0 S4 w4 S6 w4 := ext_mono (ext_trans e5 e6) (fun _ h => h) (by omega) (by omega)
  have o6 := oc_mv o4 e6' (by decide)
  have B6 := BD_mv B4 e6' (by decide)
  have G6 := GR_mv G4 e6' (fun y hy e => by have h1 := hy.1; have e : y = 2 := e; omega) (by decide)
  have Q6 := KQ_mv Q4 e6' (by decide)
  obtain ⟨S7, s7, e7, o7, _⟩ := set_g 1 (va_rf (some S3.2.1)) o6 (show 1 < 4 by decide)
  have o7 : oc κ S7 w4 1 σ.2.1 (.inr (0, [.ref g, .ref S3.2.1, .null, .int 0])) := o7
  have B7 := BD_mv B6 e7 (by decide)
  have G7 := GR_mv G6 e7 T1 (by decide)
  have Q7 := KQ_mv Q6 e7 (by decide)
  have l7 := oc_mv l6 e7 (by decide)
  have E7 : ext (fun y => y = 1 ∨ y = 2) 62 407 σ ω S7 w4 := ext_mono (ext_trans (ext_mono E3 (fun _ h => Or.inl h) (Nat.le_refl _) (Nat.le_refl _)) (ext_trans (nT_le e4 (Nat.le_refl _) (Nat.le_refl _)) (ext_trans (ext_mono e6' (fun _ h => Or.inr h) (Nat.le_refl _) (Nat.le_refl _)) (ext_mono e7 (fun _ h => Or.inl h) (Nat.le_refl _) (Nat.le_refl _))))) (fun _ h => h) (by omega) (by omega)
  have hb7 := ext_21 (κ := κ) E7 hb
  -- the text
  obtain ⟨c8, e8⟩ := push_new (κ := κ) (ω := w4) 4 hb7 (.inl (2, gz 2 150)) 150
  have n8 : gna S7 2 (150 : Int32) = some (some S7.2.1, gpush S7 (.inl (2, gz 2 150)) 150) := gna_s S7 (t := 2) (k := 150) (by decide)
  have o8 := oc_mv o7 e8 (fun h => h)
  have B8 := BD_n B7 e8
  have G8 := GR_n G7 e8
  have Q8 := KQ_mv Q7 e8 (fun h => h)
  have l8 := oc_mv l7 e8 (fun h => h)
  generalize gpush S7 (.inl (2, gz 2 150)) 150 = S8 at c8 n8 o8 B8 G8 Q8 l8 e8
  generalize own w4 S7.2.1 4 = w8 at c8 o8 B8 G8 Q8 l8 e8
  have c8 : oc κ S8 w8 4 S7.2.1 (.inl (2, 150, .inl (fun _ => 0))) := c8
  obtain ⟨S9, s9, e9, o9, _⟩ := set_g 2 (va_rf (some S7.2.1)) o8 (show 2 < 4 by decide)
  have o9 : oc κ S9 w8 1 σ.2.1 (.inr (0, [.ref g, .ref S3.2.1, .ref S7.2.1, .int 0])) := o9
  have B9 := BD_mv B8 e9 (by decide)
  have G9 := GR_mv G8 e9 T1 (by decide)
  have Q9 := KQ_mv Q8 e9 (by decide)
  have l9 := oc_mv l8 e9 (by decide)
  have c9 := oc_mv c8 e9 (by decide)
  have E9 : ext (fun y => y = 1 ∨ y = 2) 100 800 σ ω S9 w8 := ext_mono (ext_trans E7 (ext_trans (nT_le e8 (Nat.le_refl _) (Nat.le_refl _)) (ext_mono e9 (fun _ h => Or.inl h) (Nat.le_refl _) (Nat.le_refl _)))) (fun _ h => h) (by omega) (by omega)
  have EE : ext nT 100 800 σ ω S9 w8 := ext_drop (T := nT) (T' := fun y => y = 1 ∨ y = 2) (ext_mono E9 (fun _ h => Or.inl h) (Nat.le_refl _) (Nat.le_refl _)) (fun a ha h => by
    have h : ω a = 1 ∨ ω a = 2 := h
    rw [hω a ha] at h
    omega)
  have Q9' := Q9
  obtain ⟨⟨ar, f, k1, k2⟩, _⟩ := Q9
  refine ⟨S9, w8, B, bd, ?_, EE, 16, g, c, S3.2.1, S7.2.1, fun _ => 0, [], o9, Nat.le_refl _, G9, ⟨0, ar, f, ?_, Or.inl ⟨k1, rfl, k2⟩⟩, trivial, ⟨fun x hx => absurd hx List.not_mem_nil, List.Pairwise.nil⟩, c9, fun i hi => absurd hi (Nat.not_lt_zero _), B9, Q9'⟩
  · rw [f_X1_init, f_X1_init_0, gsm_s, gB1_s, n2, gB2_s, s3, gB1_s, n4, gB2_s, gsm_s, gB1_s, f_J25_init, f_J25_init_0, gsm_s, gB1_s, f_J24_init, f_J24_init_0, gsm_s, gB1_s, f_J23_init, f_J23_init_0, gsm_s, gB1_s, gB2_s, s5, gB1_s, gB2_s, s6, gB1_s, gB2_s, s7, gB1_s, n8, gB2_s, s9, gB1_s]
  · have := l9
    rw [k1] at this
    exact this
/-! the reference -/
def P00 : mR := va_up (va_up (va_up (va_up (va_up (va_up (va_up (fun _ => 0) 0 1) 1 1) 448 1) 449 0) 450 1) 452 (-1)) 467 (-1)
def V00 : mV := (P00, fun _ => 0, fun _ => 0, fun _ => 0, fun _ => 0, fun _ => 0, 0, 0, 0, 0, 0, 0, 0)
def Vz0 : mV := (fun _ => 0, fun _ => 0, fun _ => 0, fun _ => 0, fun _ => 0, fun _ => 0, 0, 0, 0, 0, 0, 0, 0)
theorem m_row {S : gS} {w : Nat → Nat} {m k N : Nat} {fs : List Value} (hb : κ.1 ≤ S.2.1) (ho : oc κ S w 5 m (.inr (9, fs))) (hk : k < fs.length) (hN : N ≤ 60000000) : ∃ S1 S2 w2, gna S 0 (Int32.ofNat N) = some (some S.2.1, S1) ∧ gpf κ S1 (some m) 9 k (va_rf (some S.2.1)) = some S2 ∧ S2.2.1 = S.2.1 + 1 ∧ oc κ S2 w2 5 m (.inr (9, fs.set k (.ref S.2.1))) ∧ oc κ S2 w2 5 S.2.1 (.inl (0, N, .inl (fun _ => 0))) ∧ (∀ a c, a ≠ m → oc κ S w 5 a c → oc κ S2 w2 5 a c) ∧ ext (fun y => y = 5) 1 N S w S2 w2 := by
  obtain ⟨p1, e1⟩ := push_new (κ := κ) (ω := w) 5 hb (.inl (0, gz 0 N)) N
  have n1 : gna S 0 (Int32.ofNat N) = some (some S.2.1, gpush S (.inl (0, gz 0 N)) N) := gna_s S hN
  have p1 : oc κ (gpush S (.inl (0, gz 0 N)) N) _ 5 S.2.1 (.inl (0, N, .inl (fun _ => 0))) := p1
  have o1 := oc_mv ho e1 (fun h => h)
  have hm : S.2.1 ≠ m := by have := ho.2.1; omega
  refine ⟨_, _, _, n1, oc_pf o1 hk _, rfl, oc_up o1 _, oc_up_ne p1 hm _, fun a c ha h => oc_up_ne (oc_mv h e1 (fun h => h)) ha _, ext_mono (ext_trans (nT_le e1 (Nat.le_refl _) (Nat.le_refl _)) (oc_ext_up o1 _ (fun y => y = 5) rfl)) (fun _ h => h) (by omega) (by omega)⟩
theorem q_init (hb : κ.1 ≤ σ.2.1) : ∃ S w, f_X6_init κ F (some σ.2.1) (gpush σ (.inr (9, g0_X6)) 13) = some ((), S) ∧ ext (fun y => y = 5) 7 3000 σ ω S w ∧ MC σ.2.1 V00 S w := by
  obtain ⟨o0, e0⟩ := push_new (κ := κ) (ω := ω) 5 hb (.inr (9, g0_X6)) 13
  have b0 : (gpush σ (.inr (9, g0_X6)) 13).2.1 = σ.2.1 + 1 := rfl
  have hb0 := ext_21 (κ := κ) e0 hb
  generalize gpush σ (.inr (9, g0_X6)) 13 = S0 at o0 e0 b0 hb0 ⊢
  generalize own ω σ.2.1 5 = w0 at o0 e0
  obtain ⟨T1, S1, w1, n1, s1, b1, o1, r1, k1, e1⟩ := m_row (k := 0) (N := 470) hb0 o0 (by decide) (by omega)
  have hb1 := ext_21 (κ := κ) e1 hb0
  obtain ⟨T2, S2, w2, n2, s2, b2, o2, r2, k2, e2⟩ := m_row (k := 1) (N := 470) hb1 o1 (by simp only [List.length_set]; decide) (by omega)
  have hb2 := ext_21 (κ := κ) e2 hb1
  obtain ⟨T3, S3, w3, n3, s3, b3, o3, r3, k3, e3⟩ := m_row (k := 2) (N := 1880) hb2 o2 (by simp only [List.length_set]; decide) (by omega)
  have hb3 := ext_21 (κ := κ) e3 hb2
  obtain ⟨T4, S4, w4, n4, s4, b4, o4, r4, k4, e4⟩ := m_row (k := 4) (N := 150) hb3 o3 (by simp only [List.length_set]; decide) (by omega)
  have hb4 := ext_21 (κ := κ) e4 hb3
  obtain ⟨T5, S5, w5, n5, s5, b5, o5, r5, k5, e5⟩ := m_row (k := 8) (N := 10) hb4 o4 (by simp only [List.length_set]; decide) (by omega)
  have hb5 := ext_21 (κ := κ) e5 hb4
  obtain ⟨T6, S6, w6, n6, s6, b6, o6, r6, k6, e6⟩ := m_row (k := 11) (N := 2) hb5 o5 (by simp only [List.length_set]; decide) (by omega)
  rw [b0] at b1 r1 o1 o2 o3 o4 o5 o6
  rw [b1] at b2 r2 o2 o3 o4 o5 o6
  rw [b2] at b3 r3 o3 o4 o5 o6
  rw [b3] at b4 r4 o4 o5 o6
  rw [b4] at b5 r5 o5 o6
  rw [b5] at b6 r6 o6
  have q5 := k6 _ _ (by omega) r5
  have q4 := k6 _ _ (by omega) (k5 _ _ (by omega) r4)
  have q3 := k6 _ _ (by omega) (k5 _ _ (by omega) (k4 _ _ (by omega) r3))
  have q2 := k6 _ _ (by omega) (k5 _ _ (by omega) (k4 _ _ (by omega) (k3 _ _ (by omega) r2)))
  have q1 := k6 _ _ (by omega) (k5 _ _ (by omega) (k4 _ _ (by omega) (k3 _ _ (by omega) (k2 _ _ (by omega) r1))))
  generalize hm : σ.2.1 = m at *
  have M6 : MC m Vz0 S6 w6 := by
    refine ⟨fun a h1 h2 => ?_, by omega⟩
    obtain ⟨d, rfl⟩ : ∃ d, a = m + d := ⟨a - m, by omega⟩
    rw [Nat.add_sub_cancel_left]
    match d, h2 with
    | 0, _ => exact ⟨o6.1, o6.2.2.1⟩
    | 1, _ => exact ⟨q1.1, q1.2.2.1⟩
    | 2, _ => exact ⟨q2.1, q2.2.2.1⟩
    | 3, _ => exact ⟨q3.1, q3.2.2.1⟩
    | 4, _ => exact ⟨q4.1, q4.2.2.1⟩
    | 5, _ => exact ⟨q5.1, q5.2.2.1⟩
    | 6, _ => exact ⟨r6.1, r6.2.2.1⟩
    | d + 7, h => omega
  obtain ⟨M7, e7⟩ := MC_set (V' := V00) M6
  have E6 : ext (fun y => y = 5) 7 3000 σ ω S6 w6 := ext_mono (ext_trans (nT_le e0 (Nat.le_refl _) (Nat.le_refl _)) (ext_trans e1 (ext_trans e2 (ext_trans e3 (ext_trans e4 (ext_trans e5 e6)))))) (fun _ h => h) (by omega) (by omega)
  refine ⟨MH m V00 S6, w6, ?_, ext_mono (ext_trans E6 e7) (fun _ h => h) (by omega) (by omega), M7⟩
  have hm1 : κ.1 ≤ m := hb
  have g : ∀ (V : mV) (k : Nat) (y : Int32), k < 470 → gsI κ (MH m V S6) (some (m + 1)) (Int32.ofNat k) y = some (MH m (wp V (va_up (vp V) k y)) S6) := fun V k y hk => MH_svp hm1 rfl hk y
  generalize hR : MH m V00 S6 = R
  have n1 : gna S0 0 (470 : Int32) = some (some S0.2.1, T1) := n1
  have n2 : gna S1 0 (470 : Int32) = some (some S1.2.1, T2) := n2
  have n3 : gna S2 0 (1880 : Int32) = some (some S2.2.1, T3) := n3
  have n4 : gna S3 0 (150 : Int32) = some (some S3.2.1, T4) := n4
  have n5 : gna S4 0 (10 : Int32) = some (some S4.2.1, T5) := n5
  have n6 : gna S5 0 (2 : Int32) = some (some S5.2.1, T6) := n6
  rw [f_X6_init, f_X6_init_0, gsm_s, gB1_s, n1, gB2_s, s1, gB1_s, n2, gB2_s, s2, gB1_s, n3, gB2_s, s3, gB1_s, n4, gB2_s, s4, gB1_s, n5, gB2_s, s5, gB1_s, n6, gB2_s, s6, gB1_s, ← MC_eq M6]
  rw [MH_rvp, gB1_s, show (0 : Int32) = Int32.ofNat 0 from rfl, g _ _ _ (by omega), gB1_s, MH_rvp, gB1_s, show gsI κ _ (some (m + 1)) (1 : Int32) (1 : Int32) = _ from g _ 1 1 (by omega), gB1_s, MH_rvp, gB1_s, show gsI κ _ (some (m + 1)) (448 : Int32) (1 : Int32) = _ from g _ 448 1 (by omega), gB1_s, MH_rvp, gB1_s, show gsI κ _ (some (m + 1)) (449 : Int32) (Int32.ofNat 0) = _ from g _ 449 0 (by omega), gB1_s, MH_rvp, gB1_s, show gsI κ _ (some (m + 1)) (450 : Int32) (1 : Int32) = _ from g _ 450 1 (by omega), gB1_s, MH_rvp, gB1_s, show gsI κ _ (some (m + 1)) (452 : Int32) (-1 : Int32) = _ from g _ 452 (-1) (by omega), gB1_s, MH_rvp, gB1_s, show gsI κ _ (some (m + 1)) (467 : Int32) (-1 : Int32) = _ from g _ 467 (-1) (by omega), gB1_s, ← hR]
  rfl
theorem P00_0 {k : Nat} (h : k ≠ 0 ∧ k ≠ 1 ∧ k ≠ 448 ∧ k ≠ 449 ∧ k ≠ 450 ∧ k ≠ 452 ∧ k ≠ 467) : P00 k = 0 := by
  unfold P00 va_up
  rw [if_neg (by omega), if_neg (by omega), if_neg (by omega), if_neg (by omega), if_neg (by omega), if_neg (by omega), if_neg (by omega)]
theorem MR_00 : MR P00 A00 := by
  refine ⟨fun b hb => ?_, fun r hr => ?_, fun k hk => ?_, ⟨rfl, rfl⟩, rfl, rfl⟩
  · by_cases e : b = 0
    · subst e
      exact ⟨rfl, by decide, fun h => absurd h (by decide), rfl, rfl, fun _ => ⟨rfl, rfl, by decide, fun i hi => absurd hi (Nat.not_lt_zero _)⟩⟩
    · have e1 : aSt A00 b = 0 := by
        show (if b = 0 then (1, _, _) else (0, _, _) : Nat × Pg × Int32).1 = 0
        rw [if_neg e]
      refine ⟨by rw [e1]; exact P00_0 (by omega), by rw [e1]; decide, fun h => absurd (e1.symm.trans h) (by decide), P00_0 (by omega), P00_0 (by omega), fun h => absurd e1 h⟩
  · match r, hr with
    | 0, _ => exact ⟨rfl, rfl, rfl⟩
    | 1, _ => exact ⟨rfl, rfl, rfl⟩
  · match k, hk with
    | 0, _ => rfl
    | 1, _ => rfl
    | 2, _ => rfl
    | 3, _ => rfl
theorem MM_00 : MM V00 S00 := ⟨MR_00, rfl, fun i hi => absurd hi (Nat.not_lt_zero _), rfl, fun i hi => absurd hi (Nat.not_lt_zero _)⟩
theorem WS_00 : WS 1 S00 := ⟨WF_00, by decide, fun A hA => absurd hA List.not_mem_nil, by decide, fun c hc => absurd hc List.not_mem_nil⟩
end C
