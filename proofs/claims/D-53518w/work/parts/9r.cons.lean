set_option maxRecDepth 100000
/-! the component's constructor -/
section C
variable {κ : gK} {B : Nat → Nat} {bd : Nat} {F : Nat} {σ : gS} {ω : Nat → Nat} {t : Nat}
theorem k_X4new {v : Nat} (hb : κ.1 ≤ σ.2.1) (x y z : Int32) (hz : gok .boolean z = some ()) : ∃ σ' ω', f_X4_init κ F (some σ.2.1) x y z (gpush σ (.inr (4, g0_X4)) 3) = some ((), σ') ∧ ext nT 1 3 σ ω σ' ω' ∧ oc κ σ' ω' v σ.2.1 (.inr (4, [.int x, .int y, .int z])) := by
  obtain ⟨p1, e1⟩ := push_new (κ := κ) (ω := ω) v hb (.inr (4, g0_X4)) 3
  have s1 := oc_pf (v := .int x) p1 (show 0 < g0_X4.length by decide)
  have p2 := oc_up p1 (.inr (4, [.int x, .int 0, .int 0]))
  have e2 := fresh_gup (d := .inr (4, [.int x, .int 0, .int 0])) e1 (Nat.le_refl _)
  have s1 : gpf κ (gpush σ (.inr (4, g0_X4)) 3) (some σ.2.1) 4 0 (.int x) = some (gup (gpush σ (.inr (4, g0_X4)) 3) σ.2.1 (.inr (4, [.int x, .int 0, .int 0]))) := s1
  generalize gpush σ (.inr (4, g0_X4)) 3 = S1 at s1 p2 e2 ⊢
  generalize gup S1 σ.2.1 (.inr (4, [.int x, .int 0, .int 0])) = S2 at s1 p2 e2
  have s2 := oc_pf (v := .int y) p2 (k := 1) (show 1 < 3 by decide)
  have p3 := oc_up p2 (.inr (4, [.int x, .int y, .int 0]))
  have e3 := fresh_gup (d := .inr (4, [.int x, .int y, .int 0])) e2 (Nat.le_refl _)
  have s2 : gpf κ S2 (some σ.2.1) 4 1 (.int y) = some (gup S2 σ.2.1 (.inr (4, [.int x, .int y, .int 0]))) := s2
  generalize gup S2 σ.2.1 (.inr (4, [.int x, .int y, .int 0])) = S3 at s2 p3 e3
  have s3 := oc_pf (v := .int z) p3 (k := 2) (show 2 < 3 by decide)
  have p4 := oc_up p3 (.inr (4, [.int x, .int y, .int z]))
  have e4 := fresh_gup (d := .inr (4, [.int x, .int y, .int z])) e3 (Nat.le_refl _)
  have s3 : gpf κ S3 (some σ.2.1) 4 2 (.int z) = some (gup S3 σ.2.1 (.inr (4, [.int x, .int y, .int z]))) := s3
  refine ⟨_, _, ?_, e4, p4⟩
  rw [f_X4_init, f_X4_init_0, gsm_s, gB1_s, s1, gB1_s, s2, gB1_s, hz, gB1_s, s3, gB1_s]
/-- a bed is made and laid in the row -/
theorem k_bed1 {k : Nat} {f : Nat → Option Nat} (hk : k < 32) (ha : oc κ σ ω 13 bd (.inl (3, 32, rA f))) : ∃ S1 S2 ω', f_X2_init κ F (some σ.2.1) (Int32.ofNat k) (gpush σ (.inr (1, g0_X2)) 1) = some ((), S1) ∧ gsR κ S1 (some bd) (Int32.ofNat k) (some σ.2.1) = some S2 ∧ ext (fun y => y = 13) 1 1 σ ω S2 ω' ∧ oc κ S2 ω' 13 bd (.inl (3, 32, rA (va_up f k (some σ.2.1)))) ∧ oc κ S2 ω' 0 σ.2.1 (.inr (1, [.int (Int32.ofNat k)])) := by
  have hb : κ.1 ≤ σ.2.1 := by have h1 := ha.2.1; have h2 := ha.2.2.2; omega
  obtain ⟨p1, e1⟩ := push_new (κ := κ) (ω := ω) 0 hb (.inr (1, g0_X2)) 1
  have s1 := oc_pf (v := .int (Int32.ofNat k)) p1 (show 0 < g0_X2.length by decide)
  have p2 := oc_up p1 (.inr (1, [.int (Int32.ofNat k)]))
  have e2 := fresh_gup (d := .inr (1, [.int (Int32.ofNat k)])) e1 (Nat.le_refl _)
  have s1 : gpf κ (gpush σ (.inr (1, g0_X2)) 1) (some σ.2.1) 1 0 (.int (Int32.ofNat k)) = some (gup (gpush σ (.inr (1, g0_X2)) 1) σ.2.1 (.inr (1, [.int (Int32.ofNat k)]))) := s1
  generalize gpush σ (.inr (1, g0_X2)) 1 = S0 at s1 p2 e2 ⊢
  generalize gup S0 σ.2.1 (.inr (1, [.int (Int32.ofNat k)])) = S1 at s1 p2 e2
  have a1 := oc_mv ha e2 (fun h => h)
  have hok : gokR κ S1 3 (some σ.2.1) := by
    unfold gokR
    left
    rw [p2.1]
    show (3, 1) ∈ gOkA
    decide
  have s2 := oc_sR (v := some σ.2.1) a1 (by omega) hk (by omega) hok
  have e3 := oc_ext_up a1 (.inl (3, 32, rA (va_up f k (some σ.2.1)))) (fun y => y = 13) rfl
  have a2 := oc_up a1 (.inl (3, 32, rA (va_up f k (some σ.2.1))))
  refine ⟨S1, _, _, ?_, s2, ?_, a2, oc_mv p2 e3 (by decide)⟩
  · rw [f_X2_init, f_X2_init_0, gsm_s, gB1_s, s1, gB1_s]
  · exact ext_mono (ext_trans (nT_le e2 (Nat.le_refl _) (Nat.le_refl _)) e3) (fun _ h => h) (by omega) (by omega)
theorem k_first8 : ∀ (d fuel k : Nat) (S : gS) (w : Nat → Nat) (f : Nat → Option Nat), k + d = 32 → d < fuel → oc κ S w 13 bd (.inl (3, 32, rA f)) → (∀ j, j < k → ∃ a, f j = some a ∧ oc κ S w 0 a (.inr (1, [.int (Int32.ofNat j)]))) →
    ∃ S' w' f' k', f_X1_first_8 κ F fuel (some bd) (Int32.ofNat k) S = f_X1_first_8b κ F k' (some bd) (32 : Int32) S' ∧ ext (fun y => y = 13) d d S w S' w' ∧ oc κ S' w' 13 bd (.inl (3, 32, rA f')) ∧ ∀ j, j < 32 → ∃ a, f' j = some a ∧ oc κ S' w' 0 a (.inr (1, [.int (Int32.ofNat j)]))
  | 0, fuel, k, S, w, f, hk, hf, ha, hj => by
    obtain ⟨f1, rfl⟩ : ∃ f, fuel = f + 1 := ⟨fuel - 1, by omega⟩
    have hk : k = 32 := by omega
    subst hk
    exact ⟨S, w, f, _, by rw [f_X1_first_8]; rfl, ext_refl _ _ _, ha, hj⟩
  | d + 1, fuel, k, S, w, f, hk, hf, ha, hj => by
    obtain ⟨f1, rfl⟩ : ∃ f, fuel = f + 1 := ⟨fuel - 1, by omega⟩
    have hk32 : k < 32 := by omega
    have c32 : ¬ ((32 : Int32) ≤ Int32.ofNat k) := by rw [show (32 : Int32) = Int32.ofNat 32 from rfl, i3_le (by omega) (by omega)]; omega
    obtain ⟨S1, S2, w2, q1, q2, e2, a2, b2⟩ := k_bed1 (F := F) hk32 ha
    obtain ⟨S', w', f', k', r1, r2, r3, r4⟩ := k_first8 d f1 (k + 1) S2 w2 _ (by omega) (by omega) a2 (fun j hj' => by
      by_cases e : j = k
      · rw [e, vup_at]; exact ⟨_, rfl, b2⟩
      · obtain ⟨a, x1, x2⟩ := hj j (by omega)
        rw [vup_ne e]
        exact ⟨a, x1, oc_mv x2 e2 (by decide)⟩)
    refine ⟨S', w', f', k', ?_, ext_mono (ext_trans e2 r2) (fun _ h => h) (by omega) (by omega), r3, r4⟩
    rw [f_X1_first_8, f_X1_first_8b, if_neg c32]
    show gB2 (some (some S.2.1, gpush S (.inr (1, g0_X2)) 1)) _ = _
    rw [gB2_s, gsm_s, gB1_s, q1, gB2_s, q2, gB1_s, i3_s]
    exact r1
/-- a cell's owner is changed -/
theorem oc_re {u a b v : Nat} {c : gC} (h : oc κ σ ω u a c) (hab : a ≠ b) : oc κ σ (va_up ω b v) u a c := ⟨h.1, h.2.1, by rw [va_up_ne _ _ hab]; exact h.2.2.1, h.2.2.2⟩
theorem oc_re0 {u a v : Nat} {c : gC} (h : oc κ σ ω u a c) : oc κ σ (va_up ω a v) v a c := ⟨h.1, h.2.1, va_up_self _ _ _, h.2.2.2⟩
theorem ext_re {T : Nat → Prop} {n m b v : Nat} {S : gS} {w : Nat → Nat} (e : ext T n m σ ω S w) (hb : σ.2.1 ≤ b) : ext T n m σ ω S (va_up w b v) := by
  obtain ⟨a1, a2, a3, a4, a5, a6⟩ := e
  exact ⟨a1, a2, a3, a4, fun a ha => by rw [va_up_ne _ _ (by omega)]; exact a5 a ha, a6⟩
/-- the beds -/
theorem k_beds (hF : 64 ≤ F) (hb : κ.1 ≤ σ.2.1) (hω : ∀ a, a < σ.2.1 → ω a ≠ 13) : ∃ S w B k', f_X1_first κ F σ = f_X1_first_8b κ F k' (some σ.2.1) (32 : Int32) S ∧ ext nT 33 64 σ ω S w ∧ BD κ B σ.2.1 S w := by
  obtain ⟨p1, e1⟩ := push_new (κ := κ) (ω := ω) 13 hb (.inl (3, gz 3 32)) 32
  have n1 : gna σ 3 (32 : Int32) = some (some σ.2.1, gpush σ (.inl (3, gz 3 32)) 32) := gna_s σ (t := 3) (k := 32) (by decide)
  have p1 : oc κ _ _ 13 σ.2.1 (.inl (3, 32, rA (fun _ => none))) := p1
  obtain ⟨S', w', f', k', r1, r2, r3, r4⟩ := k_first8 (F := F) 32 F 0 _ _ _ (by omega) (by omega) p1 (fun j hj => absurd hj (Nat.not_lt_zero _))
  have E0 := ext_trans (ext_mono e1 (T' := fun x => (fun y => y = 13) x ∨ nT x) (fun _ h => h.elim) (Nat.le_refl _) (Nat.le_refl _)) (ext_mono r2 (fun _ h => Or.inl h) (Nat.le_refl _) (Nat.le_refl _))
  have E : ext nT 33 64 σ ω S' w' := ext_mono (ext_drop E0 hω) (fun _ h => h) (by omega) (by omega)
  refine ⟨S', va_up w' σ.2.1 0, fun b => (f' b).getD 0, k', ?_, ext_re E (Nat.le_refl _), fun b hb => ?_, f', oc_re0 r3, fun b hb => ?_⟩
  · rw [f_X1_first, f_X1_first_0, n1, gB2_s]
    exact r1
  · obtain ⟨a, x1, x2⟩ := r4 b hb
    have hne : a ≠ σ.2.1 := oc_ne x2 r3 (by intro e; cases e)
    show oc κ _ _ 0 ((f' b).getD 0) _
    rw [x1]
    exact oc_re x2 hne
  · obtain ⟨a, x1, x2⟩ := r4 b hb
    show f' b = some ((f' b).getD 0)
    rw [x1]
    rfl
end C
