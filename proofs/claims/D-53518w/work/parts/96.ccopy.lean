/-! the component: a garden's copy -/
theorem own_wu {σ σ' : gS} {ω : Nat → Nat} {u n m : Nat} (e : ext nT n m σ (own ω σ.2.1 u) σ' (own ω σ.2.1 u)) : ext nT n m σ ω σ' (own ω σ.2.1 u) := ext_mono (ext_trans (ext_own nT σ ω u) e) (fun _ h => h) (by omega) (by omega)
theorem push_new {κ : gK} {σ : gS} {ω : Nat → Nat} (u : Nat) (hb : κ.1 ≤ σ.2.1) (cell : gC) (k : Nat) : oc κ (gpush σ cell k) (own ω σ.2.1 u) u σ.2.1 cell ∧ ext nT 1 k σ ω (gpush σ cell k) (own ω σ.2.1 u) := by
  have hω : ∀ b, σ.2.1 ≤ b → own ω σ.2.1 u b = u := fun b hb => own_new hb
  obtain ⟨p1, p2⟩ := push_oc (κ := κ) hω hb cell k
  exact ⟨p1, own_wu p2⟩
theorem ext_drop {T T' : Nat → Prop} {n m : Nat} {σ S : gS} {ω ω1 : Nat → Nat} (e : ext (fun x => T' x ∨ T x) n m σ ω S ω1) (hX : ∀ a, a < σ.2.1 → ¬ T' (ω a)) : ext T n m σ ω S ω1 := by
  obtain ⟨a1, a2, a3, a4, a5, a6⟩ := e
  exact ⟨a1, a2, a3, a4, a5, fun a ha h => a6 a ha (fun e => e.elim (hX a ha) h)⟩
theorem ext_21 {T : Nat → Prop} {n m : Nat} {κ : gK} {σ S : gS} {ω ω1 : Nat → Nat} (e : ext T n m σ ω S ω1) (hb : κ.1 ≤ σ.2.1) : κ.1 ≤ S.2.1 := Nat.le_trans hb e.1
def RdN (c : gA) (fs : List Value) : Prop := fs = [.ref (c_pg c), .ref (c_st c)]
/-- the empty garden's fields -/
def zG (A : aG) : aG := (A.1, A.2.1, A.2.2.1, none, 0, 0)
section C
variable {κ : gK} {B : Nat → Nat} {bd : Nat} {F : Nat} {σ : gS} {ω : Nat → Nat} {t g : Nat} {c : gA} {A : aG}
theorem k_X4copy {u v a : Nat} {x : aRo} (h : oc κ σ ω u a (rCell x)) : ∃ a' σ' ω', f_X4_copy κ F (some a) σ = some (some a', σ') ∧ ext nT 1 3 σ ω σ' ω' ∧ oc κ σ' ω' v a' (rCell x) ∧ σ.2.1 ≤ a' := by
  have hb : κ.1 ≤ σ.2.1 := by have h1 := h.2.1; have h2 := h.2.2.2; omega
  obtain ⟨p1, e1⟩ := push_new (κ := κ) (ω := ω) v hb (.inr (4, g0_X4)) 3
  obtain ⟨r1, r2, r3⟩ := k_rcI (oc_mv h e1 (fun h => h))
  have s1 := oc_pf (v := .int x.1) p1 (show 0 < g0_X4.length by decide)
  have p2 := oc_up p1 (.inr (4, g0_X4.set 0 (.int x.1)))
  have e2 := fresh_gup (d := .inr (4, g0_X4.set 0 (.int x.1))) e1 (Nat.le_refl _)
  generalize gup (gpush σ (.inr (4, g0_X4)) 3) σ.2.1 (.inr (4, g0_X4.set 0 (.int x.1))) = S2 at s1 p2 e2
  have s2 := oc_pf (v := .int (vDir x.2.1)) p2 (show 1 < (g0_X4.set 0 (.int x.1)).length by rw [List.length_set]; decide)
  have p3 := oc_up p2 (.inr (4, (g0_X4.set 0 (.int x.1)).set 1 (.int (vDir x.2.1))))
  have e3 := fresh_gup (d := .inr (4, (g0_X4.set 0 (.int x.1)).set 1 (.int (vDir x.2.1)))) e2 (Nat.le_refl _)
  generalize gup S2 σ.2.1 (.inr (4, (g0_X4.set 0 (.int x.1)).set 1 (.int (vDir x.2.1)))) = S3 at s2 p3 e3
  have s3 := oc_pf (v := .int (if x.2.2 then 1 else 0)) p3 (show 2 < ((g0_X4.set 0 (.int x.1)).set 1 (.int (vDir x.2.1))).length by rw [List.length_set, List.length_set]; decide)
  have p4 := oc_up p3 (.inr (4, ((g0_X4.set 0 (.int x.1)).set 1 (.int (vDir x.2.1))).set 2 (.int (if x.2.2 then 1 else 0))))
  have e4 := fresh_gup (d := .inr (4, ((g0_X4.set 0 (.int x.1)).set 1 (.int (vDir x.2.1))).set 2 (.int (if x.2.2 then 1 else 0)))) e3 (Nat.le_refl _)
  have hok : gok .boolean (if x.2.2 then 1 else 0) = some () := by cases x.2.2 <;> decide
  refine ⟨σ.2.1, _, _, ?_, e4, p4, Nat.le_refl _⟩
  rw [f_X4_copy, f_X4_copy_0]
  show gB2 (some (some σ.2.1, gpush σ (.inr (4, g0_X4)) 3)) _ = _
  rw [gB2_s, r1, gB1_s, r2, gB1_s, r3, gB1_s, gsm_s, gB1_s, f_X4_init, f_X4_init_0, gsm_s, gB1_s, s1, gB1_s, s2, gB1_s, hok, gB1_s, s3, gB1_s, gB2_s]
theorem k_init50 {w : Nat → Nat} {g' st : Nat} {A0 : aG} (hst : st = c_st c) : ∀ (d fuel k : Nat) (S : gS) (f : Nat → Option Nat), k + d = 32 → d < fuel → oc κ S w t g' (gCell bd c A0) → oc κ S w (t + 4) st (.inl (4, 32, rA f)) → (∀ b, b < k → f b = κ.2 0) →
    ∃ S' f', f_X3_init_50 κ F fuel (some g') (Int32.ofNat k) S = some ((), S') ∧ ext (fun y => y = t + 4) 0 0 S w S' w ∧ oc κ S' w (t + 4) st (.inl (4, 32, rA f')) ∧ ∀ b, b < 32 → f' b = κ.2 0
  | 0, fuel, k, S, f, hk, hf, hg, ha, hb => by
    obtain ⟨f1, rfl⟩ : ∃ f, fuel = f + 1 := ⟨fuel - 1, by omega⟩
    have hk : k = 32 := by omega
    subst hk
    exact ⟨S, f, by rw [f_X3_init_50, f_X3_init_50b, if_pos (by decide)], ext_refl _ _ _, ha, hb⟩
  | d + 1, fuel, k, S, f, hk, hf, hg, ha, hb => by
    obtain ⟨f1, rfl⟩ : ∃ f, fuel = f + 1 := ⟨fuel - 1, by omega⟩
    have c32 : ¬ ((32 : Int32) ≤ Int32.ofNat k) := by rw [show (32 : Int32) = Int32.ofNat 32 from rfl, i3_le (by omega) (by omega)]; omega
    have s1 := oc_sR (v := κ.2 0) ha (by omega) (show k < 32 by omega) (by omega) (gokR_s (by omega))
    have e1 := oc_ext_up ha (.inl (4, 32, rA (va_up f k (κ.2 0)))) (fun y => y = t + 4) rfl
    have h1 := oc_up ha (.inl (4, 32, rA (va_up f k (κ.2 0))))
    obtain ⟨S', f', q1, q2, q3, q4⟩ := k_init50 hst d f1 (k + 1) _ (va_up f k (κ.2 0)) (by omega) (by omega) (oc_mv hg e1 (tk_n (j := 0) (by omega))) h1 (fun b hb' => by
      by_cases e : b = k
      · rw [e, vup_at]
      · rw [vup_ne e]; exact hb b (by omega))
    refine ⟨S', f', ?_, ext_mono (ext_trans e1 q2) (fun _ h => h) (by omega) (by omega), q3, q4⟩
    rw [f_X3_init_50, f_X3_init_50b, if_neg c32, m_f1 hg, gB1_s, ← hst]
    unfold rA at *
    rw [s1, gB1_s, i3_s, ← q1]
theorem set_f {S : gS} {w : Nat → Nat} {g' ci : Nat} {fs : List Value} (k : Nat) (v : Value) (h : oc κ S w t g' (.inr (ci, fs))) (hk : k < fs.length) : ∃ S', gpf κ S (some g') ci k v = some S' ∧ ext (fun y => y = t + 0) 0 0 S w S' w ∧ oc κ S' w t g' (.inr (ci, fs.set k v)) := ⟨_, oc_pf h hk v, oc_ext_up h _ _ rfl, oc_up h _⟩
/-- the constructor of a garden -/
theorem k_init {g' fw rt : Nat} (hF : 64 ≤ F) (ht : 0 < t) (hg : oc κ σ ω t g' (.inr (7, g0_X3))) (r0 r1 : Nat) (A0 : aG) :
    ∃ σ' ω' c' f, f_X3_init κ F (some g') (some bd) (some fw) (some rt) σ = some ((), σ') ∧ c_fw c' = fw ∧ c_rt c' = rt ∧ c_r0 c' = r0 ∧ c_r1 c' = r1 ∧ c_dr c' = none ∧ oc κ σ' ω' t g' (gCell bd c' (zG A0)) ∧ LM κ B σ' ω' (t + 1) (c_pg c') [] ∧ oc κ σ' ω' (t + 4) (c_st c') (.inl (4, 32, rA f)) ∧ (∀ b, b < 32 → f b = κ.2 0) ∧ oc κ σ' ω' (t + 9) (c_rd c') (.inl (6, 4, rA (fun _ => none))) ∧ ext (fun y => y = t + 0 ∨ y = t + 1 ∨ y = t + 4) 3 48 σ ω σ' ω' := by
  have hb : κ.1 ≤ σ.2.1 := by have h1 := hg.2.1; have h2 := hg.2.2.2; omega
  have L0 : g0_X3.length = 9 := by decide
  -- the map
  obtain ⟨p1, e1⟩ := push_new (κ := κ) (ω := ω) (t + 1) hb (.inr (10, g0_J2)) 12
  obtain ⟨S2, n1, e2, n3⟩ := p_newMap (F := F) p1
  have m2 : LM κ B S2 _ (t + 1) σ.2.1 [] := LM_nil n3 (Or.inl rfl)
  have g2 := oc_mv (oc_mv hg e1 (fun h => h)) e2 (tk_n (j := 0) (by omega))
  obtain ⟨S3, s3, e3, g3⟩ := set_f 0 (va_rf (some σ.2.1)) g2 (by omega)
  have m3 := LM_mv m2 e3 (tk_n (by omega)) (tk_0 ht)
  have E3 : ext (fun y => y = t + 0 ∨ y = t + 1 ∨ y = t + 4) 1 12 σ ω S3 _ := ext_mono (ext_trans (nT_le e1 (Nat.le_refl _) (Nat.le_refl _)) (ext_trans (ext_mono e2 (fun _ h => Or.inr (Or.inl h)) (Nat.le_refl _) (Nat.le_refl _)) (ext_mono e3 (fun _ h => Or.inl h) (Nat.le_refl _) (Nat.le_refl _)))) (fun _ h => h) (by omega) (by omega)
  -- the states
  have hb3 := ext_21 (κ := κ) E3 hb
  obtain ⟨p4, e4⟩ := push_new (κ := κ) (ω := own ω σ.2.1 (t + 1)) (t + 4) hb3 (.inl (4, gz 4 32)) 32
  have g4 := oc_mv g3 e4 (fun h => h)
  have m4 := LM_mv m3 e4 (fun h => h) (fun h => h)
  obtain ⟨S5, s5, e5, g5⟩ := set_f 1 (va_rf (some S3.2.1)) g4 (by rw [List.length_set]; omega)
  have p5 := oc_mv p4 e5 (tk_n (by omega))
  have m5 := LM_mv m4 e5 (tk_n (by omega)) (tk_0 ht)
  have E5 : ext (fun y => y = t + 0 ∨ y = t + 1 ∨ y = t + 4) 2 44 σ ω S5 _ := ext_mono (ext_trans E3 (ext_trans (nT_le e4 (Nat.le_refl _) (Nat.le_refl _)) (ext_mono e5 (fun _ h => Or.inl h) (Nat.le_refl _) (Nat.le_refl _)))) (fun _ h => h) (by omega) (by omega)
  -- the readers
  have hb5 := ext_21 (κ := κ) E5 hb
  obtain ⟨p6, e6⟩ := push_new (κ := κ) (ω := own (own ω σ.2.1 (t + 1)) S3.2.1 (t + 4)) (t + 9) hb5 (.inl (6, gz 6 4)) 4
  have g6 := oc_mv g5 e6 (fun h => h)
  have m6 := LM_mv m5 e6 (fun h => h) (fun h => h)
  have p6' := oc_mv p5 e6 (fun h => h)
  obtain ⟨S7, s7, e7, g7⟩ := set_f 5 (va_rf (some S5.2.1)) g6 (by simp only [List.length_set]; omega)
  obtain ⟨S8, s8, e8, g8⟩ := set_f 2 (va_rf (some bd)) g7 (by simp only [List.length_set]; omega)
  obtain ⟨S9, s9, e9, g9⟩ := set_f 3 (va_rf (some fw)) g8 (by simp only [List.length_set]; omega)
  obtain ⟨S10, s10, e10, g10⟩ := set_f 4 (va_rf (some rt)) g9 (by simp only [List.length_set]; omega)
  have e7' : ext (fun y => y = t + 0) 0 0 _ _ S10 _ := ext_mono (ext_trans e7 (ext_trans e8 (ext_trans e9 e10))) (fun _ h => h) (by omega) (by omega)
  have m10 := LM_mv m6 e7' (tk_n (by omega)) (tk_0 ht)
  have p10 := oc_mv p6' e7' (tk_n (by omega))
  have r10 := oc_mv p6 e7' (tk_n (by omega))
  have E10 : ext (fun y => y = t + 0 ∨ y = t + 1 ∨ y = t + 4) 3 48 σ ω S10 _ := ext_mono (ext_trans E5 (ext_trans (nT_le e6 (Nat.le_refl _) (Nat.le_refl _)) (ext_mono e7' (fun _ h => Or.inl h) (Nat.le_refl _) (Nat.le_refl _)))) (fun _ h => h) (by omega) (by omega)
  have g10' : oc κ S10 _ t g' (gCell bd (σ.2.1, S3.2.1, fw, rt, S5.2.1, r0, r1, none) (zG A0)) := g10
  obtain ⟨S11, f, q1, q2, q3, q4⟩ := k_init50 (F := F) (c := (σ.2.1, S3.2.1, fw, rt, S5.2.1, r0, r1, none)) (A0 := zG A0) rfl 32 F 0 S10 (fun _ => none) (by omega) (by omega) g10' p10 (fun b h => absurd h (Nat.not_lt_zero _))
  refine ⟨S11, _, (σ.2.1, S3.2.1, fw, rt, S5.2.1, r0, r1, none), f, ?_, rfl, rfl, rfl, rfl, rfl, oc_mv g10' q2 (tk_n (j := 0) (by omega)), LM_mv m10 q2 (tk_n (by omega)) (tk_0 ht), q3, q4, oc_mv r10 q2 (tk_n (by omega)), ext_mono (ext_trans E10 (ext_mono q2 (fun _ h => Or.inr (Or.inr h)) (Nat.le_refl _) (Nat.le_refl _))) (fun _ h => h) (by omega) (by omega)⟩
  rw [f_X3_init, f_X3_init_0, gsm_s, gB1_s]
  show gB2 (some (some σ.2.1, gpush σ (.inr (10, g0_J2)) 12)) _ = _
  rw [gB2_s, gsm_s, gB1_s, n1, gB2_s, s3, gB1_s, show (32 : Int32) = Int32.ofNat 32 from rfl, gna_s _ (by decide), gB2_s, s5, gB1_s, L4, gna_s _ (by decide), gB2_s, s7, gB1_s, s8, gB1_s, s9, gB1_s, s10, gB1_s]
  exact q1
/-- the pages laid in a copy so far -/
def CP (κ : gK) (S : gS) (w : Nat → Nat) (A : aG) (k : Nat) (L : List mE) : Prop := ∀ b, b < 32 → if b < k ∧ aSt A b ≠ 0 then ∃ a, vls L b = some (some a) ∧ PG κ S w a (aPg A b) else vls L b = none
theorem k_copy52 (hK : KS κ) (hF : 64 ≤ F) {t1 : Nat} (ht : 0 < t) (ht1 : t + 16 ≤ t1) {g' : Nat} {c' : gA} {A0 : aG} : ∀ (d fuel k : Nat) (S : gS) (w : Nat → Nat) (f : Nat → Option Nat) (L : List mE), k + d = 32 → d < fuel →
    GR κ B bd S w t g c A → BD κ B bd S w → oc κ S w t1 g' (gCell bd c' A0) → oc κ S w (t1 + 4) (c_st c') (.inl (4, 32, rA f)) → (∀ b, b < k → f b = κ.2 (aSt A b)) → LM κ B S w (t1 + 1) (c_pg c') L → CP κ S w A k L →
    ∃ S' w' f' L' k', f_X3_copy_52 κ F fuel (some g) (some g') (Int32.ofNat k) S = f_X3_copy_52b κ F k' (some g) (some g') (32 : Int32) S' ∧ ext (fun y => y = t1 + 1 ∨ y = t1 + 4) (3 * d) (86 * d) S w S' w' ∧ oc κ S' w' (t1 + 4) (c_st c') (.inl (4, 32, rA f')) ∧ (∀ b, b < 32 → f' b = κ.2 (aSt A b)) ∧ LM κ B S' w' (t1 + 1) (c_pg c') L' ∧ CP κ S' w' A 32 L'
  | 0, fuel, k, S, w, f, L, hk, hf, hG, hB, hg, ha, hb, hL, hP => by
    obtain ⟨f1, rfl⟩ : ∃ f, fuel = f + 1 := ⟨fuel - 1, by omega⟩
    have hk : k = 32 := by omega
    subst hk
    exact ⟨S, w, f, L, _, by rw [f_X3_copy_52]; rfl, ext_refl _ _ _, ha, hb, hL, hP⟩
  | d + 1, fuel, k, S, w, f, L, hk, hf, hG, hB, hg, ha, hb, hL, hP => by
    obtain ⟨f1, rfl⟩ : ∃ f, fuel = f + 1 := ⟨fuel - 1, by omega⟩
    have hk32 : k < 32 := by omega
    have c32 : ¬ ((32 : Int32) ≤ Int32.ofNat k) := by rw [show (32 : Int32) = Int32.ofNat 32 from rfl, i3_le (by omega) (by omega)]; omega
    have h3 := hG.2.2.2.2.2.2.2 k hk32
    have s1 := oc_sR (v := κ.2 (aSt A k)) ha (by omega) hk32 (by omega) (gokR_s h3)
    have e1 := oc_ext_up ha (.inl (4, 32, rA (va_up f k (κ.2 (aSt A k))))) (fun y => y = t1 + 4) rfl
    have a1 := oc_up ha (.inl (4, 32, rA (va_up f k (κ.2 (aSt A k)))))
    unfold rA at s1 e1 a1
    generalize gup S (c_st c') (.inl (4, 32, .inr (.inr (.inr (.inr (va_up f k (κ.2 (aSt A k)))))))) = S1 at s1 e1 a1
    have hG1 := GR_mv hG e1 (fun y hy e => by have h1 := hy.2; have e : y = t1 + 4 := e; omega) (tk_0 (by omega))
    have hB1 := BD_mv hB e1 (tk_0 (by omega))
    have g1 := oc_mv hg e1 (tk_n (j := 0) (by omega))
    have L1 := LM_mv hL e1 (tk_n (by omega)) (tk_0 (by omega))
    have f1' : ∀ b, b < k + 1 → va_up f k (κ.2 (aSt A k)) b = κ.2 (aSt A b) := fun b hb' => by
      by_cases e : b = k
      · rw [e, vup_at]
      · rw [vup_ne e]; exact hb b (by omega)
    have P1 : CP κ S1 w A k L := fun b hb => by
      have := hP b hb
      by_cases q : b < k ∧ aSt A b ≠ 0
      · rw [if_pos q] at this ⊢; obtain ⟨a, x1, x2⟩ := this; exact ⟨a, x1, PG_mv x2 e1 (tk_0 (by omega))⟩
      · rw [if_neg q] at this ⊢; exact this
    have hst := k_st hG1 hk32
    by_cases h0 : aSt A k = 0
    · have P2 : CP κ S1 w A (k + 1) L := fun b hb => by
        have := P1 b hb
        by_cases q : b < k ∧ aSt A b ≠ 0
        · rw [if_pos q] at this; rw [if_pos ⟨by omega, q.2⟩]; exact this
        · rw [if_neg q] at this
          rw [if_neg (fun h => q ⟨by have := h.1; have h2 := h.2; by_cases e : b = k; · rw [e] at h2; exact absurd h0 h2
                                     · omega, h.2⟩)]
          exact this
      obtain ⟨S', w', f', L', k', r1, r2, r3⟩ := k_copy52 hK hF ht ht1 (g' := g') (c' := c') (A0 := A0) d f1 (k + 1) S1 w _ L (by omega) (by omega) hG1 hB1 g1 a1 f1' L1 P2
      refine ⟨S', w', f', L', k', ?_, ext_mono (ext_trans (ext_mono e1 (fun _ h => Or.inr h) (Nat.le_refl _) (Nat.le_refl _)) r2) (fun _ h => h) (by omega) (by omega), r3⟩
      rw [f_X3_copy_52, f_X3_copy_52b, if_neg c32, m_f1 hg, gB1_s, k_f1 hG, gB1_s, k_st hG hk32, gB1_s, s1, gB1_s, k_f1 hG1, gB1_s, hst, gB1_s, f_hold_eq hK h3, gB2_s, if_pos h0, if_pos rfl, f_X3_copy_104, i3_s]
      exact r1
    · obtain ⟨a, y1, y2⟩ := k_page (F := F) hG1 hB1 hF hk32 h0
      have e0 := ext_own nT S1 w (t1 + 1)
      have L1' := LM_mv L1 e0 (fun h => h) (fun h => h)
      have hB1' := BD_n hB1 e0
      obtain ⟨S2, L2, z1, z2, z3, z4, z5⟩ := p_put (F := F) (v := some a) hF hB1'.1 L1' (by omega) (fun b hb => own_new hb) hk32
      have e2 : ext (fun y => y = t1 + 1) 3 86 S1 w S2 (own w S1.2.1 (t1 + 1)) := ext_mono (ext_trans (nT_le e0 (Nat.le_refl _) (Nat.le_refl _)) z2) (fun _ h => h) (by omega) (by omega)
      have P2 : CP κ S2 (own w S1.2.1 (t1 + 1)) A (k + 1) L2 := fun b hb => by
        have := P1 b hb
        rw [z4]
        by_cases e : b = k
        · rw [if_pos e, e, if_pos ⟨by omega, h0⟩]
          exact ⟨a, rfl, PG_mv y2 e2 (tk_0 (by omega))⟩
        · rw [if_neg e]
          by_cases q : b < k ∧ aSt A b ≠ 0
          · rw [if_pos q] at this; rw [if_pos ⟨by omega, q.2⟩]; obtain ⟨a, x1, x2⟩ := this; exact ⟨a, x1, PG_mv x2 e2 (tk_0 (by omega))⟩
          · rw [if_neg q] at this
            rw [if_neg (fun h => q ⟨by have := h.1; omega, h.2⟩)]
            exact this
      have hk0 : vls L k = none := by have := P1 k hk32; rwa [if_neg (fun h => absurd h.1 (Nat.lt_irrefl _))] at this
      obtain ⟨S', w', f', L', k', r1, r2, r3⟩ := k_copy52 hK hF ht ht1 (g' := g') (c' := c') (A0 := A0) d f1 (k + 1) S2 _ _ L2 (by omega) (by omega) (GR_mv hG1 e2 (fun y hy e => by have h1 := hy.2; have e : y = t1 + 1 := e; omega) (tk_0 (by omega))) (BD_mv hB1 e2 (tk_0 (by omega))) (oc_mv g1 e2 (tk_n (j := 0) (by omega))) (oc_mv a1 e2 (tk_n (by omega))) f1' z3 P2
      refine ⟨S', w', f', L', k', ?_, ext_mono (ext_trans (ext_mono e1 (fun _ h => Or.inr h) (Nat.le_refl _) (Nat.le_refl _)) (ext_trans (ext_mono e2 (fun _ h => Or.inl h) (Nat.le_refl _) (Nat.le_refl _)) r2)) (fun _ h => h) (by omega) (by omega), r3⟩
      rw [f_X3_copy_52, f_X3_copy_52b, if_neg c32, m_f1 hg, gB1_s, k_f1 hG, gB1_s, k_st hG hk32, gB1_s, s1, gB1_s, k_f1 hG1, gB1_s, hst, gB1_s, f_hold_eq hK h3, gB2_s, if_neg h0, if_neg (by decide), m_f0 g1, gB1_s, k_f2 hG1, gB1_s, k_bd hB1 hk32, gB1_s, k_ck hG1, gB1_s, y1, gB2_s, LM_ck L1, gB1_s, z1, gB2_s, hk0, show (none : Option (Option Nat)).elim none id = none from rfl, gcm_n, gB1_s, f_X3_copy_104, i3_s]
      exact r1
end C
