/-! the component: a garden's copy, the end -/
section C
variable {κ : gK} {B : Nat → Nat} {bd : Nat} {F : Nat} {σ : gS} {ω : Nat → Nat} {t g : Nat} {c : gA} {A : aG}
theorem sets_T {T : Nat → Prop} {n m : Nat} {σ' : gS} {ω' : Nat → Nat} (ht : 0 < t) (h : GR κ B bd σ ω t g c A) (e : ext T n m σ ω σ' ω') (hT : ∀ j, j ≤ 11 → j ≠ 2 → j ≠ 3 → ¬ T (t + j)) (h0 : ¬ T 0) (hd : GDr κ B σ' ω' t (c_dr c) A) : GR κ B bd σ' ω' t g c A := by
  obtain ⟨a1, a2, a3, a4, a5, a6, a7, a8⟩ := h
  exact ⟨oc_mv a1 e (hT 0 (by omega) (by omega) (by omega)), GSt_mv a2 e (hT 4 (by omega) (by omega) (by omega)), GFw_mv a3 e (hT 5 (by omega) (by omega) (by omega)), GRt_mv a4 e (hT 6 (by omega) (by omega) (by omega)) (hT 7 (by omega) (by omega) (by omega)) (hT 8 (by omega) (by omega) (by omega)), GRd_mv a5 e (hT 9 (by omega) (by omega) (by omega)) h0, GPg_mv a6 e (hT 1 (by omega) (by omega) (by omega)) h0, hd, a8⟩
theorem k_copy (hK : KS κ) (hF : 64 ≤ F) (ht : 0 < t) {t1 : Nat} (ht1 : t + 16 ≤ t1) (h : GR κ B bd σ ω t g c A) (hB : BD κ B bd σ ω) (hX : ∀ a, a < σ.2.1 → ω a < t1) :
    ∃ g' σ' ω' c', f_X3_copy κ F (some g) σ = some (some g', σ') ∧ ext (fun y => y = t + 2 ∨ y = t + 3) 320 9000 σ ω σ' ω' ∧ GR κ B bd σ' ω' t g c A ∧ GR κ B bd σ' ω' t1 g' c' A := by
  obtain ⟨g', S1, w1, c', f, ff, a1, e1, a2, a3, a4, a5, a6, a7, a8⟩ := k_copyA (F := F) hF ht ht1 h hB
  have h1 := GR_nw ht ht1 h e1
  have B1 := BD_nw (by omega) hB e1
  obtain ⟨S2, w2, f2, L, k', b1, e2, b2, b3, b4, b5⟩ := k_copy52 (F := F) hK hF ht ht1 32 F 0 S1 w1 f [] (by omega) (by omega) h1 B1 a3 a4 (fun b h => absurd h (Nat.not_lt_zero _)) a8 (fun b hb => by rw [if_neg (fun h => absurd h.1 (Nat.not_lt_zero _))]; rfl)
  have t2 : ∀ {j}, j ≠ 1 → j ≠ 4 → ¬ ((fun y => y = t1 + 1 ∨ y = t1 + 4) (t1 + j)) := fun {j} h1 h2 e => by
    rcases e with e | e
    · have e : t1 + j = t1 + 1 := e; omega
    · have e : t1 + j = t1 + 4 := e; omega
  have e2' : ext (nw t1) 96 2752 S1 w1 S2 w2 := ext_mono e2 (fun y h => h.elim (nw_k y) (nw_k y)) (Nat.le_refl _) (Nat.le_refl _)
  have h2 := GR_nw ht ht1 h1 e2'
  have B2 := BD_nw (by omega) B1 e2'
  have g2 := oc_mv a3 e2 (t2 (j := 0) (by omega) (by omega))
  have w2' := GFw_mv a5 e2 (t2 (by omega) (by omega))
  have r2 := GRt_mv a6 e2 (t2 (by omega) (by omega)) (t2 (by omega) (by omega)) (t2 (by omega) (by omega))
  have d2 := oc_mv a7 e2 (t2 (by omega) (by omega))
  -- the readers
  obtain ⟨fr, fr1, fr2⟩ := h2.2.2.2.2.1
  have hok : ∀ i, i < (4 : Int32).toNatClampNeg → gokR κ S2 6 (fr ((0 : Int32).toNatClampNeg + i)) := fun i hi => by
    have hi : i < 4 := hi
    rw [show (0 : Int32).toNatClampNeg + i = i from by rw [show (0 : Int32).toNatClampNeg = 0 from rfl]; omega]
    have h9 := fr2 i hi
    cases hd : aRd A i with
    | none => rw [hd] at h9; rw [show fr i = none from h9]; trivial
    | some q =>
      rw [hd] at h9
      obtain ⟨a, x1, x2⟩ := h9
      rw [x1]
      unfold gokR
      left
      rw [x2.1]
      show (6, 5) ∈ gOkA
      decide
  have n3 := gcpR_eq (κ := κ) (sp := 0) (dp := 0) (n := 4) fr1.1 d2.1 (by omega) (by omega) fr1.2.2.2 d2.2.2.2 (by decide) (by decide) (by decide) (by decide) (by decide) hok
  have hcp : ∀ k, k < 4 → va_cpy fr ff (0 : Int32).toNatClampNeg (0 : Int32).toNatClampNeg (4 : Int32).toNatClampNeg k = fr k := fun k hk => by
    unfold va_cpy
    rw [if_pos (by show 0 ≤ k ∧ k < 0 + 4; omega)]
    exact congrArg fr (by show 0 + (k - 0) = k; omega)
  generalize va_cpy fr ff (0 : Int32).toNatClampNeg (0 : Int32).toNatClampNeg (4 : Int32).toNatClampNeg = fn at n3 hcp
  have e3 := oc_ext_up d2 (.inl (6, 4, rA fn)) (fun y => y = t1 + 9) rfl
  have d3 := oc_up d2 (.inl (6, 4, rA fn))
  have n3 : gcpR κ S2 (some (c_rd c)) 0 (some (c_rd c')) 0 4 = some (gup S2 (c_rd c') (.inl (6, 4, rA fn))) := n3
  generalize gup S2 (c_rd c') (.inl (6, 4, rA fn)) = S3 at n3 e3 d3
  have e3' : ext (nw t1) 0 0 S2 w2 S3 w2 := ext_mono e3 nw_k (Nat.le_refl _) (Nat.le_refl _)
  have h3 := GR_nw ht ht1 h2 e3'
  have B3 := BD_nw (by omega) B2 e3'
  have g3 := oc_mv g2 e3 (tk_n (j := 0) (by omega))
  have w3 := GFw_mv w2' e3 (tk_n (by omega))
  have r3 := GRt_mv r2 e3 (tk_n (by omega)) (tk_n (by omega)) (tk_n (by omega))
  have s3 := oc_mv b2 e3 (tk_n (by omega))
  have l3 := LM_mv b4 e3 (tk_n (by omega)) (tk_0 (by omega))
  have rd3 : GRd κ S3 w2 (t1 + 9) (c_rd c') A := ⟨fn, d3, fun k hk => by
    have h9 := fr2 k hk
    rw [hcp k hk]
    cases hd : aRd A k with
    | none => rw [hd] at h9; exact h9
    | some q => rw [hd] at h9; obtain ⟨a, x1, x2⟩ := h9; exact ⟨a, x1, oc_mv x2 e3 (tk_0 (by omega))⟩⟩
  have P3 : GPg κ B S3 w2 t1 (c_pg c') A := ⟨L, l3, fun b hb => by
    have h9 := b5 b hb
    by_cases q : aSt A b = 0
    · rw [if_pos q]; rw [if_neg (fun h => h.2 q)] at h9; exact h9
    · rw [if_neg q]; rw [if_pos ⟨hb, q⟩] at h9; obtain ⟨a, x1, x2⟩ := h9; exact ⟨a, x1, PG_mv x2 e3 (tk_0 (by omega))⟩⟩
  have E3 : ext (nw t1) 104 2849 σ ω S3 w2 := ext_mono (ext_trans e1 (ext_trans e2' e3')) (fun _ h => h) (by omega) (by omega)
  -- the end
  have fin : ∀ {S : gS} {w : Nat → Nat} (o : Option Nat), GR κ B bd S w t g c A → oc κ S w t1 g' (gCell bd c' (zG A)) → GSt κ S w (t1 + 4) (c_st c') A → GFw κ S w (t1 + 5) (c_fw c') A → GRt κ S w t1 (c_rt c') (c_r0 c') (c_r1 c') A → GRd κ S w (t1 + 9) (c_rd c') A → GPg κ B S w t1 (c_pg c') A → GDr κ B S w t1 o A → ∃ S', f_X3_copy_143 κ F (some g) (some g') (some g') o S = some (some g', S') ∧ ext (fun y => y = t1 + 0) 0 0 S w S' w ∧ GR κ B bd S' w t g c A ∧ GR κ B bd S' w t1 g' (setdr c' o) A := by
    intro S w o x1 x2 x3 x4 x5 x6 x7 x8
    obtain ⟨T1, y1, z1, g1⟩ := set_f (t := t1) (fs := [.ref (c_pg c'), .ref (c_st c'), .ref bd, .ref (c_fw c'), .ref (c_rt c'), .ref (c_rd c'), va_rf (c_dr c'), .int 0, .int 0]) 6 (va_rf o) x2 (show 6 < 9 by decide)
    have x11 := GR_nw ht ht1 x1 (ext_mono z1 (nw_k (t1 := t1)) (Nat.le_refl _) (Nat.le_refl _))
    obtain ⟨T2, y2, z2, g2⟩ := set_f (t := t1) 7 (.int (aCm A)) g1 (by rw [List.length_set]; show 7 < 9; decide)
    have x12 := GR_nw ht ht1 x11 (ext_mono z2 (nw_k (t1 := t1)) (Nat.le_refl _) (Nat.le_refl _))
    obtain ⟨T3, y3, z3, g3⟩ := set_f (t := t1) 8 (.int (aLs A)) g2 (by rw [List.length_set, List.length_set]; show 8 < 9; decide)
    have x13 := GR_nw ht ht1 x12 (ext_mono z3 (nw_k (t1 := t1)) (Nat.le_refl _) (Nat.le_refl _))
    have e : ext (fun y => y = t1 + 0) 0 0 S w T3 w := ext_mono (ext_trans z1 (ext_trans z2 z3)) (fun _ h => h) (by omega) (by omega)
    refine ⟨T3, ?_, e, x13, g3, GSt_mv x3 e (tk_n (by omega)), GFw_mv x4 e (tk_n (by omega)), GRt_mv x5 e (tk_n (by omega)) (tk_n (by omega)) (tk_n (by omega)), GRd_mv x6 e (tk_n (by omega)) (tk_0 (by omega)), GPg_mv x7 e (tk_n (by omega)) (tk_0 (by omega)), GDr_mv x8 e (tk_n (by omega)) (tk_n (by omega)) (tk_n (by omega)) (tk_n (by omega)) (tk_0 (by omega)), x1.2.2.2.2.2.2.2⟩
    rw [f_X3_copy_143, y1, gB1_s, k_f7 x11, gB1_s, y2, gB1_s, k_f8 x12, gB1_s, y3, gB1_s]
  have hrun : f_X3_copy κ F (some g) σ = f_X3_copy_52b κ F k' (some g) (some g') (32 : Int32) S2 := by rw [a1]; exact b1
  have rd2 : gfR S2 (some g') 7 5 = some (some (c_rd c')) := by rw [gfR_u, g2.1]; rfl
  rw [hrun, f_X3_copy_52b, if_pos (by decide), k_f5 h2, gB1_s, rd2, gB1_s, n3, gB1_s, k_f6 h3, gB1_s]
  have drop : ∀ {n m : Nat} {S : gS} {w : Nat → Nat}, n ≤ 320 → m ≤ 9000 → ext (fun y => nw t1 y ∨ (y = t + 2 ∨ y = t + 3)) n m σ ω S w → ext (fun y => y = t + 2 ∨ y = t + 3) 320 9000 σ ω S w := fun hn hm e => ext_mono (ext_drop e (fun a ha e => by have e : t1 ≤ ω a := e; have := hX a ha; omega)) (fun _ h => h) hn hm
  cases hdr : aDr A with
  | none =>
    have hn : c_dr c = none := by have h9 := h3.2.2.2.2.2.2.1; unfold GDr at h9; rw [hdr] at h9; exact h9
    obtain ⟨S', z1, z2, z3, z4⟩ := fin none h3 g3 ⟨f2, s3, b3⟩ w3 r3 rd3 P3 (by unfold GDr; rw [hdr])
    rw [hn, if_pos rfl]
    exact ⟨g', S', w2, _, z1, drop (n := 104) (m := 2849) (by omega) (by omega) (ext_mono (ext_trans E3 (ext_mono z2 (nw_k (t1 := t1)) (Nat.le_refl _) (Nat.le_refl _))) (fun _ h => Or.inl h) (by omega) (by omega)), z3, z4⟩
  | some d =>
    obtain ⟨da, fs, ls, x1, x2, x3, x4⟩ := k_dr h3 hdr
    obtain ⟨S4, w4, da', fs', ls', y1, e4, y3, y4, y5, y6, y7⟩ := k_dcopy (F := F) hF ht ht1 B3 x2 x3 x4
    have tn : ∀ {j}, (j = 0 ∨ j = 1 ∨ j = 4 ∨ j = 5 ∨ j = 6 ∨ j = 7 ∨ j = 8 ∨ j = 9) → ¬ ((fun y => (t1 + 1 < y ∧ y ≤ t1 + 12 ∧ y ≠ t1 + 4 ∧ y ≠ t1 + 5 ∧ y ≠ t1 + 6 ∧ y ≠ t1 + 7 ∧ y ≠ t1 + 8 ∧ y ≠ t1 + 9) ∨ (y = t + 2 ∨ y = t + 3)) (t1 + j)) := fun {j} h1 e => by
      have e : (t1 + 1 < t1 + j ∧ t1 + j ≤ t1 + 12 ∧ t1 + j ≠ t1 + 4 ∧ t1 + j ≠ t1 + 5 ∧ t1 + j ≠ t1 + 6 ∧ t1 + j ≠ t1 + 7 ∧ t1 + j ≠ t1 + 8 ∧ t1 + j ≠ t1 + 9) ∨ (t1 + j = t + 2 ∨ t1 + j = t + 3) := e
      omega
    have t0 : ¬ ((fun y => (t1 + 1 < y ∧ y ≤ t1 + 12 ∧ y ≠ t1 + 4 ∧ y ≠ t1 + 5 ∧ y ≠ t1 + 6 ∧ y ≠ t1 + 7 ∧ y ≠ t1 + 8 ∧ y ≠ t1 + 9) ∨ (y = t + 2 ∨ y = t + 3)) 0) := fun e => by
      have e : (t1 + 1 < 0 ∧ 0 ≤ t1 + 12 ∧ 0 ≠ t1 + 4 ∧ 0 ≠ t1 + 5 ∧ 0 ≠ t1 + 6 ∧ 0 ≠ t1 + 7 ∧ 0 ≠ t1 + 8 ∧ 0 ≠ t1 + 9) ∨ (0 = t + 2 ∨ 0 = t + 3) := e
      omega
    have h4 : GR κ B bd S4 w4 t g c A := by
      refine sets_T ht h3 e4 (fun j h1 h2 h3 e => ?_) t0 ?_
      · have e : (t1 + 1 < t + j ∧ t + j ≤ t1 + 12 ∧ t + j ≠ t1 + 4 ∧ t + j ≠ t1 + 5 ∧ t + j ≠ t1 + 6 ∧ t + j ≠ t1 + 7 ∧ t + j ≠ t1 + 8 ∧ t + j ≠ t1 + 9) ∨ (t + j = t + 2 ∨ t + j = t + 3) := e
        omega
      · unfold GDr
        rw [hdr]
        refine ⟨da, fs, ls, x1, oc_mv x2 e4 (fun e => ?_), y6, y7⟩
        have e : (t1 + 1 < t + 10 ∧ t + 10 ≤ t1 + 12 ∧ t + 10 ≠ t1 + 4 ∧ t + 10 ≠ t1 + 5 ∧ t + 10 ≠ t1 + 6 ∧ t + 10 ≠ t1 + 7 ∧ t + 10 ≠ t1 + 8 ∧ t + 10 ≠ t1 + 9) ∨ (t + 10 = t + 2 ∨ t + 10 = t + 3) := e
        omega
    obtain ⟨S', z1, z2, z3, z4⟩ := fin (some da') h4 (oc_mv g3 e4 (tn (j := 0) (by omega))) ⟨f2, oc_mv s3 e4 (tn (by omega)), b3⟩ (GFw_mv w3 e4 (tn (by omega))) (GRt_mv r3 e4 (tn (by omega)) (tn (by omega)) (tn (by omega))) (GRd_mv rd3 e4 (tn (by omega)) t0) (GPg_mv P3 e4 (tn (by omega)) t0) (by unfold GDr; rw [hdr]; exact ⟨da', fs', ls', rfl, y3, y4, y5⟩)
    rw [x1, if_neg (by simp), gB1_s, (k_drI x2).1, gB1_s, y1, gB2_s]
    refine ⟨g', S', w4, _, z1, drop (n := 314) (m := 8849) (by omega) (by omega) (ext_mono (ext_trans (ext_mono E3 (fun _ h => Or.inl h) (Nat.le_refl _) (Nat.le_refl _)) (ext_trans (ext_mono e4 (fun y h => ?_) (Nat.le_refl _) (Nat.le_refl _)) (ext_mono z2 (fun y h => Or.inl (nw_k (t1 := t1) y h)) (Nat.le_refl _) (Nat.le_refl _)))) (fun _ h => h) (by omega) (by omega)), z3, z4⟩
    rcases h with h | h
    · exact Or.inl (by show t1 ≤ y; omega)
    · exact Or.inr h
end C
