/-! the component: a garden's copy, whole -/
section C
variable {κ : gK} {B : Nat → Nat} {bd : Nat} {F : Nat} {σ : gS} {ω : Nat → Nat} {t g : Nat} {c : gA} {A : aG}
/-- the new tags -/
def nw (t1 : Nat) (y : Nat) : Prop := t1 ≤ y
theorem nw_k {t1 k : Nat} : ∀ y, y = t1 + k → nw t1 y := fun y h => by show t1 ≤ y; omega
theorem GR_nw {n m t1 : Nat} {σ' : gS} {ω' : Nat → Nat} (ht : 0 < t) (ht1 : t + 16 ≤ t1) (h : GR κ B bd σ ω t g c A) (e : ext (nw t1) n m σ ω σ' ω') : GR κ B bd σ' ω' t g c A := GR_mv h e (fun y hy e => by have h1 := hy.2; have e : t1 ≤ y := e; omega) (fun e => by have e : t1 ≤ 0 := e; omega)
theorem BD_nw {n m t1 : Nat} {σ' : gS} {ω' : Nat → Nat} (ht1 : 0 < t1) (h : BD κ B bd σ ω) (e : ext (nw t1) n m σ ω σ' ω') : BD κ B bd σ' ω' := BD_mv h e (fun e => by have e : t1 ≤ 0 := e; omega)
theorem row_put {S : gS} {w : Nat → Nat} {u a b k : Nat} {f : Nat → Option Nat} {x : aRo} (ha : oc κ S w u a (.inl (5, 2, rA f))) {v : Nat} (hb : oc κ S w v b (rCell x)) (hk : k < 2) : gsR κ S (some a) (Int32.ofNat k) (some b) = some (gup S a (.inl (5, 2, rA (va_up f k (some b))))) ∧ ext (fun y => y = u) 0 0 S w (gup S a (.inl (5, 2, rA (va_up f k (some b))))) w ∧ oc κ (gup S a (.inl (5, 2, rA (va_up f k (some b))))) w u a (.inl (5, 2, rA (va_up f k (some b)))) := by
  refine ⟨oc_sR ha (by omega) hk (by omega) ?_, oc_ext_up ha _ _ rfl, oc_up ha _⟩
  unfold gokR
  left
  rw [hb.1]
  show (5, 4) ∈ gOkA
  decide
theorem k_copyA (hF : 64 ≤ F) (ht : 0 < t) {t1 : Nat} (ht1 : t + 16 ≤ t1) (h : GR κ B bd σ ω t g c A) (hB : BD κ B bd σ ω) :
    ∃ g' σ' ω' c' f ff, f_X3_copy κ F (some g) σ = f_X3_copy_52 κ F F (some g) (some g') (0 : Int32) σ' ∧ ext (nw t1) 8 97 σ ω σ' ω' ∧ c_dr c' = none ∧ oc κ σ' ω' t1 g' (gCell bd c' (zG A)) ∧ oc κ σ' ω' (t1 + 4) (c_st c') (.inl (4, 32, rA f)) ∧ GFw κ σ' ω' (t1 + 5) (c_fw c') A ∧ GRt κ σ' ω' t1 (c_rt c') (c_r0 c') (c_r1 c') A ∧ oc κ σ' ω' (t1 + 9) (c_rd c') (.inl (6, 4, rA ff)) ∧ LM κ B σ' ω' (t1 + 1) (c_pg c') [] := by
  have hb := k_base h
  -- the garden's cell
  obtain ⟨p1, e1⟩ := push_new (κ := κ) (ω := ω) (t1 + 0) hb (.inr (7, g0_X3)) 9
  have h1 := GR_n h e1
  have hb1 := ext_21 (κ := κ) e1 hb
  -- freedWith
  obtain ⟨f, f1, f2⟩ := h1.2.2.1
  have hcl := gcln_eq (κ := κ) (t := 0) f1.1 f1.2.2.2 (fits_int f _)
  obtain ⟨p2, e2⟩ := push_new (κ := κ) (ω := own ω σ.2.1 (t1 + 0)) (t1 + 5) hb1 (.inl (0, 32, .inl f)) 32
  have h2 := GR_n h1 e2
  have g2 := oc_mv p1 e2 (fun h => h)
  have w2 : GFw κ _ _ (t1 + 5) _ A := ⟨f, p2, f2⟩
  generalize hS1 : gpush σ (.inr (7, g0_X3)) 9 = S1 at hcl p2 e2 h2 g2 w2 hb1
  have q1 : gct (gpush S1 (.inl (0, 32, .inl f)) 32) (some S1.2.1) 0 = some () := gct_0 p2
  have hb2 := ext_21 (κ := κ) e2 hb1
  have E2 : ext (nw t1) 2 41 σ ω (gpush S1 (.inl (0, 32, .inl f)) 32) _ := ext_mono (ext_trans (hS1 ▸ nT_le e1 (Nat.le_refl _) (Nat.le_refl _)) (nT_le e2 (Nat.le_refl _) (Nat.le_refl _))) (fun _ h => h) (by omega) (by omega)
  generalize hS2 : gpush S1 (.inl (0, 32, .inl f)) 32 = S2 at hcl E2 h2 g2 w2 q1 hb2
  generalize own (own ω σ.2.1 (t1 + 0)) S1.2.1 (t1 + 5) = o2 at E2 h2 g2 w2
  -- the roots' row
  obtain ⟨p3, e3⟩ := push_new (κ := κ) (ω := o2) (t1 + 6) hb2 (.inl (5, gz 5 2)) 2
  have p3 : oc κ _ _ (t1 + 6) S2.2.1 (.inl (5, 2, rA (fun _ => none))) := p3
  have h3 := GR_n h2 e3
  have g3 := oc_mv g2 e3 (fun h => h)
  have w3 := GFw_mv w2 e3 (fun h => h)
  have n3 : gna S2 5 (2 : Int32) = some (some S2.2.1, gpush S2 (.inl (5, gz 5 2)) 2) := gna_s S2 (t := 5) (k := 2) (by decide)
  have E3 : ext (nw t1) 3 43 σ ω (gpush S2 (.inl (5, gz 5 2)) 2) _ := ext_mono (ext_trans E2 (nT_le e3 (Nat.le_refl _) (Nat.le_refl _))) (fun _ h => h) (by omega) (by omega)
  generalize gpush S2 (.inl (5, gz 5 2)) 2 = S3 at n3 E3 p3 h3 g3 w3
  generalize own o2 S2.2.1 (t1 + 6) = o3 at E3 p3 h3 g3 w3
  have rt0 : ∀ {S : gS} {w : Nat → Nat}, GR κ B bd S w t g c A → gaR S (some (c_rt c)) (0 : Int32) = some (some (c_r0 c)) := fun h => k_rt h (r := 0) (by omega)
  have rt1 : ∀ {S : gS} {w : Nat → Nat}, GR κ B bd S w t g c A → gaR S (some (c_rt c)) (1 : Int32) = some (some (c_r1 c)) := fun h => k_rt h (r := 1) (by omega)
  have rc0 : ∀ {S : gS} {w : Nat → Nat}, GR κ B bd S w t g c A → oc κ S w (t + 7) (c_r0 c) (rCell (aRt A 0)) := fun h => k_rc h (r := 0) (by omega)
  have rc1 : ∀ {S : gS} {w : Nat → Nat}, GR κ B bd S w t g c A → oc κ S w (t + 8) (c_r1 c) (rCell (aRt A 1)) := fun h => k_rc h (r := 1) (by omega)
  have rck : ∀ {S : gS} {w : Nat → Nat} {u a : Nat} {x : aRo}, oc κ S w u a (rCell x) → gck S (some a) 4 = some () := fun h => by rw [gck_u, h.1]; rfl
  -- the first root
  obtain ⟨r0, S4, o4, n4, e4, p4, l4⟩ := k_X4copy (F := F) (v := t1 + 7) (rc0 h3)
  have h4 := GR_n h3 e4
  have g4 := oc_mv g3 e4 (fun h => h)
  have w4 := GFw_mv w3 e4 (fun h => h)
  have p34 := oc_mv p3 e4 (fun h => h)
  obtain ⟨n5, e5, p5⟩ := row_put p34 p4 (k := 0) (by omega)
  have e5' := ext_mono e5 (nw_k (t1 := t1)) (Nat.le_refl _) (Nat.le_refl _)
  have h5 := GR_nw ht ht1 h4 e5'
  have g5 := oc_mv g4 e5 (tk_n (j := 0) (by omega))
  have w5 := GFw_mv w4 e5 (tk_n (by omega))
  have p45 := oc_mv p4 e5 (tk_n (by omega))
  have E5 : ext (nw t1) 4 46 σ ω _ _ := ext_mono (ext_trans E3 (ext_trans (nT_le e4 (Nat.le_refl _) (Nat.le_refl _)) e5')) (fun _ h => h) (by omega) (by omega)
  generalize gup S4 S2.2.1 (.inl (5, 2, rA (va_up (fun _ => none) 0 (some r0)))) = S5 at n5 E5 p5 h5 g5 w5 p45
  -- the second root
  obtain ⟨r1, S6, o6, n6, e6, p6, l6⟩ := k_X4copy (F := F) (v := t1 + 8) (rc1 h5)
  have h6 := GR_n h5 e6
  have g6 := oc_mv g5 e6 (fun h => h)
  have w6 := GFw_mv w5 e6 (fun h => h)
  have p56 := oc_mv p5 e6 (fun h => h)
  have p46 := oc_mv p45 e6 (fun h => h)
  obtain ⟨n7, e7, p7⟩ := row_put p56 p6 (k := 1) (by omega)
  have e7' := ext_mono e7 (nw_k (t1 := t1)) (Nat.le_refl _) (Nat.le_refl _)
  have h7 := GR_nw ht ht1 h6 e7'
  have g7 := oc_mv g6 e7 (tk_n (j := 0) (by omega))
  have w7 := GFw_mv w6 e7 (tk_n (by omega))
  have p47 := oc_mv p46 e7 (tk_n (by omega))
  have p67 := oc_mv p6 e7 (tk_n (by omega))
  have E7 : ext (nw t1) 5 49 σ ω _ _ := ext_mono (ext_trans E5 (ext_trans (nT_le e6 (Nat.le_refl _) (Nat.le_refl _)) e7')) (fun _ h => h) (by omega) (by omega)
  generalize gup S6 S2.2.1 (.inl (5, 2, rA (va_up (va_up (fun _ => none) 0 (some r0)) 1 (some r1)))) = S7 at n7 E7 p7 h7 g7 w7 p47 p67
  have R7 : GRt κ S7 o6 t1 S2.2.1 r0 r1 A := ⟨_, p7, by rw [vup_ne (by decide), vup_at], by rw [vup_at], p47, p67⟩
  -- the constructor
  obtain ⟨S8, o8, c', ff, i1, i2, i3, i4, i5, i6, i7, i8, i9, i10, i11, e8⟩ := k_init (F := F) (B := B) (bd := bd) (fw := S1.2.1) (rt := S2.2.1) hF (show 0 < t1 by omega) g7 r0 r1 A
  have tn : ∀ {j}, j ≠ 0 → j ≠ 1 → j ≠ 4 → ¬ ((fun y => y = t1 + 0 ∨ y = t1 + 1 ∨ y = t1 + 4) (t1 + j)) := fun {j} h1 h2 h3 e => by
    rcases e with e | e | e
    · have e : t1 + j = t1 + 0 := e; omega
    · have e : t1 + j = t1 + 1 := e; omega
    · have e : t1 + j = t1 + 4 := e; omega
  refine ⟨σ.2.1, S8, o8, c', ff, _, ?_, ext_mono (ext_trans E7 (ext_mono e8 (fun y hy => hy.elim (nw_k y) (fun h => h.elim (nw_k y) (nw_k y))) (Nat.le_refl _) (Nat.le_refl _))) (fun _ h => h) (by omega) (by omega), i6, i7, i9, ?_, ?_, i11, i8⟩
  · rw [f_X3_copy, f_X3_copy_0]
    show gB2 (some (some σ.2.1, gpush σ (.inr (7, g0_X3)) 9)) _ = _
    rw [gB2_s, k_f2 h1, gB1_s, k_f3 h1, gB1_s, hS1, hcl, gB2_s, q1, gB1_s, n3, gB2_s, k_f4 h3, gB1_s, rt0 h3, gB1_s, rck (rc0 h3), gB1_s, n4, gB2_s]
    rw [show gsR κ S4 (some S2.2.1) (0 : Int32) (some r0) = _ from n5, gB1_s, k_f4 h5, gB1_s, rt1 h5, gB1_s, rck (rc1 h5), gB1_s, n6, gB2_s, show gsR κ S6 (some S2.2.1) (1 : Int32) (some r1) = _ from n7, gB1_s, gsm_s, gB1_s, i1, gB2_s]
  · rw [i2]; exact GFw_mv w7 e8 (tn (by omega) (by omega) (by omega))
  · rw [i3, i4, i5]; exact GRt_mv R7 e8 (tn (by omega) (by omega) (by omega)) (tn (by omega) (by omega) (by omega)) (tn (by omega) (by omega) (by omega))
end C
