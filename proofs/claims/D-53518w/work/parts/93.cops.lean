/-! the component: its calls on a garden -/
section C
variable {κ : gK} {B : Nat → Nat} {bd : Nat} {F : Nat} {σ : gS} {ω : Nat → Nat} {t g : Nat} {c : gA} {A : aG}
abbrev eIA : String := "java/lang/IllegalArgumentException"
abbrev eIS : String := "java/lang/IllegalStateException"
abbrev eIX : String := "java/lang/IndexOutOfBoundsException"
theorem k_put {n : Nat} (h : GR κ B bd σ ω t g c A) (hB : BD κ B bd σ ω) (hK : KS κ) (hT : KT κ) (hF : 64 ≤ F) (ht : 0 < t) (hw : WF n A) (key v : Int32) :
    ∃ σ' ω', f_X3_put κ F (some g) key v σ = some (outE (spPut A key v) eIA eIS, σ') ∧ ext (gT t) 64 1020 σ ω σ' ω' ∧ GR κ B bd σ' ω' t g c (gOf A (spPut A key v)) := by
  have thr : ∀ s : Int32, s = s := fun _ => rfl
  have hgt : ext (gT t) 64 1020 σ ω (gthr σ) ω := nT_le (thr_ext σ ω) (by omega) (by omega)
  have hGt := GR_n h (thr_ext σ ω)
  unfold spPut
  rw [f_X3_put, f_X3_put_0, k_reqKey hT]
  cases c1 : inR key 0 99 with
  | false => exact ⟨_, ω, rfl, hgt, hGt⟩
  | true =>
    rw [if_pos rfl, if_pos rfl, gB3_l, lg_in (a := -999) (b := 999) (by decide) (by decide), gB2_s, k_reqArg hT (b := inR v (-999) 999) (i := 30) (by decide) (by decide) rfl]
    cases c2 : inR v (-999) 999 with
    | false => exact ⟨_, ω, rfl, hgt, hGt⟩
    | true =>
      rw [if_pos rfl, if_pos rfl, gB3_l, k_ck h, gB1_s, k_reqDraft h hT]
      cases c3 : isDr A with
      | false => exact ⟨_, ω, rfl, hgt, hGt⟩
      | true =>
        obtain ⟨S1, r1, r2⟩ := k_reason (F := F) h hB hK hT hF hw key
        have h1 := GR_n h r2
        have hB1 := BD_n hB r2
        rw [c3, if_pos rfl] at r1
        rw [if_pos rfl, if_pos rfl, gB3_l, k_ck h, gB1_s, r1, gB3_l]
        show ∃ σ' ω', _ = some (outE (if true then (if bedsFor A (dirL A (drD A)) key = -1000 ∨ Int32.ofNat (many A) < bedsFor A (dirL A (drD A)) key then (.inr 2) else .inl (putA A key v, valBy A (drD A) key)) else .inr 2) eIA eIS, σ') ∧ ext (gT t) 64 1020 σ ω σ' ω' ∧ GR κ B bd σ' ω' t g c (gOf A (if true then (if bedsFor A (dirL A (drD A)) key = -1000 ∨ Int32.ofNat (many A) < bedsFor A (dirL A (drD A)) key then (.inr 2) else .inl (putA A key v, valBy A (drD A) key)) else .inr 2))
        by_cases c4 : vReason A key = 0
        · obtain ⟨v1, v2⟩ := vReason_0.mp c4
          obtain ⟨S2, ω2, p1, p2, p3⟩ := k_put38 (F := F) (v := v) h1 hB1 hK hT hF ht hw c3 v1 v2
          rw [if_pos c4, p1, if_pos rfl, if_neg (show ¬ (bedsFor A (dirL A (drD A)) key = -1000 ∨ Int32.ofNat (many A) < bedsFor A (dirL A (drD A)) key) from fun e => e.elim v1 v2)]
          exact ⟨S2, ω2, rfl, ext_mono (ext_trans (nT_le r2 (Nat.le_refl _) (Nat.le_refl _)) p2) (fun _ h => h) (by omega) (by omega), p3⟩
        · have hor : bedsFor A (dirL A (drD A)) key = -1000 ∨ Int32.ofNat (many A) < bedsFor A (dirL A (drD A)) key := by
            rcases Classical.em (bedsFor A (dirL A (drD A)) key = -1000) with e | e
            · exact Or.inl e
            · rcases Classical.em (Int32.ofNat (many A) < bedsFor A (dirL A (drD A)) key) with e2 | e2
              · exact Or.inr e2
              · exact absurd (vReason_0.mpr ⟨e, e2⟩) c4
          rw [if_neg c4, f_X3_put_38, k_reqState hT (b := false) (i := 31) (x := 0) (by decide) (by decide) rfl, if_pos rfl, if_pos hor]
          exact ⟨gthr S1, ω, rfl, nT_le (ext_trans r2 (thr_ext S1 ω)) (by omega) (by omega), GR_n h1 (thr_ext S1 ω)⟩
theorem k_canRemove {n : Nat} (h : GR κ B bd σ ω t g c A) (hB : BD κ B bd σ ω) (hK : KS κ) (hF : 64 ≤ F) (hw : WF n A) {d : aD} (hd : aDr A = some d) {key : Int32} (hne : dirL A (drD A) ≠ []) :
    ∃ σ', f_X3_canRemove κ F (some g) key σ = some (if many A < remBeds A key then 0 else 1, σ') ∧ ext nT 2 2 σ ω σ' ω := by
  have hV := WF_vdr hw hd
  have h6 := hV.2.1
  have eD := drD_d hd
  rw [eD] at hne
  obtain ⟨da, fs, ls, c1, c2, c3, c4⟩ := k_dr h hd
  have i := k_drI c2
  obtain ⟨a, a1, a2⟩ := k_directory (F := F) h hB hF hV.1.1 hV.1.2.1 hV.1.2.2.1
  obtain ⟨la, d1, d2, d3, d4⟩ := PG_dir a2 (by omega)
  have hlen : 0 < (dirL A d.2.2).length := List.length_pos_iff.mpr hne
  have hpl := plc_lt (A := A) (D := dirL A d.2.2) (key := key) _ hlen
  have hm : (dirL A d.2.2).getD (plc A (dirL A d.2.2) key (dirL A d.2.2).length) 0 ∈ dirL A d.2.2 := getD_mem hpl
  obtain ⟨b1, b2, b3, b4⟩ := okL_len hV.1 hm
  have hok4 := (hV.2.2 _ hm).2.1
  have hrem : remBeds A key = (if anyNew A then 0 else 1) + (if (leafL A ((dirL A d.2.2).getD (plc A (dirL A d.2.2) key (dirL A d.2.2).length) 0)).length = 1 ∨ isNew A ((dirL A d.2.2).getD (plc A (dirL A d.2.2) key (dirL A d.2.2).length) 0) = true then 0 else 1) := by unfold remBeds; rw [eD]
  have hget := d3 _ hpl
  have hpo := k_placeOf (F := F) h hB hF hV.1 h6 (okV_ll hV) a2 key
  rw [hrem]
  generalize plc A (dirL A d.2.2) key (dirL A d.2.2).length = place at hpl hm b1 b2 b3 b4 hok4 hget hpo ⊢
  generalize (dirL A d.2.2).getD place 0 = lf at hm b1 b2 b3 b4 hok4 hget ⊢
  obtain ⟨S1, n1, n2⟩ := k_isNew (F := F) hB hF c2 c3 b1 (k_base h)
  have h1 := GR_n h n2
  have hB1 := BD_n hB n2
  have c2' := oc_mv c2 n2 (fun h => h)
  have c3' := GSet_mv c3 n2 (fun h => h) (fun h => h) (fun h => h)
  have i' := k_drI c2'
  obtain ⟨S2, m1, m2⟩ := k_isNew (F := F) hB1 hF c2' c3' hV.1.1 (k_base h1)
  have h2 := GR_n h1 m2
  rw [WF_dirnew hw hd] at m1
  have hm32 := many_le A
  -- the last step
  have s52 : ∀ (x : Int32) (nx : Nat), x = Int32.ofNat nx → nx ≤ 1 → ∃ σ', f_X3_canRemove_52 κ F (some g) x S1 = some (if many A < (if anyNew A then 0 else 1) + nx then 0 else 1, σ') ∧ ext nT 2 2 σ ω σ' ω := by
    have s86 : ∀ (a b : Nat), a ≤ 1 → b ≤ 1 → f_X3_canRemove_86 κ F (some g) (Int32.ofNat a) (Int32.ofNat b) S2 = some (if many A < a + b then 0 else 1, S2) := by
      intro a b ha hb
      rw [f_X3_canRemove_86, k_ck h2, gB1_s, k_diggable h2 hK (by omega), gB2_s, k_ck h2, gB1_s, k_inState h2 hK (by omega) (show 0 < 3 by decide), gB2_s, i3_add, ← many_sum, i3_add]
      by_cases e : many A < a + b
      · rw [if_pos ((i3_lt (by omega) (by omega)).mpr e), f_X3_canRemove_111, gok_z0, gB1_s, if_pos e]
      · rw [if_neg (fun e2 => e ((i3_lt (by omega) (by omega)).mp e2)), f_X3_canRemove_111, gok_z1, gB1_s, if_neg e]
    intro x nx hx hnx
    have s76 : ∀ (a : Nat), a ≤ 1 → f_X3_canRemove_76 κ F (some g) x (Int32.ofNat a) S2 = some (if many A < a + nx then 0 else 1, S2) := by
      intro a ha
      rw [f_X3_canRemove_76]
      by_cases e : nx = 0
      · rw [if_pos (show x = (0 : Int32) from by rw [hx, e]; rfl), e]
        exact s86 a 0 ha (by omega)
      · rw [if_neg (show ¬ x = (0 : Int32) from fun e2 => by rw [hx] at e2; exact e ((i3_inj (b := 0) (by omega) (by omega)).mp e2)), show nx = 1 by omega]
        exact s86 a 1 ha (by omega)
    refine ⟨S2, ?_, ext_trans n2 m2⟩
    rw [f_X3_canRemove_52, k_f6 h1, c1, gB1_s, gB1_s, i'.2.2.2, gB1_s, i'.1, gB1_s, m1, gB2_s]
    cases ha : anyNew A with
    | true => exact s76 0 (by omega)
    | false => exact s76 1 (by omega)
  rw [f_X3_canRemove, f_X3_canRemove_0, k_f6 h, c1, gB1_s, i.2.2.2, gB1_s, k_ck h, gB1_s, a1, gB2_s, d1, gB1_s, k_ck h, gB1_s, hpo, gB2_s, hget, gB1_s, k_f6 h, c1, gB1_s, i.1, gB1_s, n1, gB2_s, isNew_d hd]
  cases hx : d.1 lf with
  | true =>
    rw [if_pos rfl, if_neg (by decide), f_X3_canRemove_51, if_pos (Or.inr rfl)]
    exact s52 0 0 rfl (by omega)
  | false =>
    obtain ⟨e, e1, e2⟩ := k_leaf (F := F) h1 hB1 hF b1 b2 b3
    obtain ⟨z1, z2⟩ := size_leaf (F := F) e2 (by omega)
    have hl1 := List.length_pos_iff.mpr b4
    rw [if_pos (show (if (false = true) then (1 : Int32) else 0) = 0 from rfl), k_ck h1, gB1_s, e1, gB2_s, z2, gB1_s, z1, gB2_s]
    by_cases cl : (leafL A lf).length = 1
    · rw [if_pos (show Int32.ofNat (leafL A lf).length ≤ (1 : Int32) from by rw [cl]; decide), f_X3_canRemove_51, if_pos (Or.inl cl)]
      exact s52 0 0 rfl (by omega)
    · rw [if_neg (show ¬ Int32.ofNat (leafL A lf).length ≤ (1 : Int32) from by rw [show (1 : Int32) = Int32.ofNat 1 from rfl, i3_le (by omega) (by omega)]; omega), if_neg (show ¬ ((leafL A lf).length = 1 ∨ false = true) from fun h => h.elim cl (fun h => by cases h))]
      exact s52 1 1 rfl (by omega)
theorem k_rem30 {n : Nat} (h : GR κ B bd σ ω t g c A) (hB : BD κ B bd σ ω) (hK : KS κ) (hT : KT κ) (hF : 64 ≤ F) (ht : 0 < t) (hw : WF n A) (hdr : isDr A = true) {key r : Int32} (h1 : valBy A (drD A) key ≠ -1000) (h2 : ¬ many A < remBeds A key) :
    ∃ σ' ω', f_X3_remove_30 κ F (some g) key r (1 : Int32) σ = some (.inl r, σ') ∧ ext (gT t) 60 1000 σ ω σ' ω' ∧ GR κ B bd σ' ω' t g c (remA A key) := by
  obtain ⟨d0, hd0⟩ := isDr_d hdr
  have hne : dirL A (drD A) ≠ [] := fun e => h1 (valBy_nil e)
  have hlen : 0 < (dirL A (drD A)).length := List.length_pos_iff.mpr hne
  have hpl := plc_lt (A := A) (D := dirL A (drD A)) (key := key) _ hlen
  have hmem : (dirL A (drD A)).getD (plc A (dirL A (drD A)) key (dirL A (drD A)).length) 0 ∈ dirL A (drD A) := getD_mem hpl
  have hvb := valBy_ne (key := key) hne
  have pre1 : anyNew A = false → 0 < many A := fun e => by unfold remBeds at h2; simp only [e] at h2; simp at h2; omega
  obtain ⟨w1, w2, w3, w4, w5, w6, w7⟩ := WF_own hw hdr pre1
  obtain ⟨d, hdB⟩ := isDr_d w2
  have hDl := dirL_lt hw hd0
  have h6 := hDl.1
  have hlfc : ∀ b ∈ dirL A (drD A), leafL (ownDirA A) b = leafL A b := fun b hb => leafL_congr (w5 b hb).1
  have e1 := plc_congr (key := key) hlfc (dirL A (drD A)).length (Nat.le_refl _)
  obtain ⟨a, S1, ω1, o1, o2, o3, o4⟩ := k_ownDirectory (F := F) h hB hK hT hF ht hw hd0 pre1
  have hB1 := BD_T (T := gT t) ht hB o2
  obtain ⟨la, q1, q2, q3, q4⟩ := PG_dir o4 (by omega)
  obtain ⟨DB, b1, b2, b3, b4, b5, b6, b7, b8, b9, b10, b11⟩ := WF_d w1 hdB
  unfold remA
  simp only
  rw [b4] at w4 ⊢
  rw [w4] at b3 b4 b6 b7 b8 ⊢
  have hVB := WF_vdr w1 hdB
  have hDB : okD (ownDirA A) d.2.2 (dirL A (drD A)) := by have := hVB.1; rw [dirL_of b3] at this; exact this
  have hpo := k_placeOf (F := F) o3 hB1 hF hDB h6 (fun b hb => by rw [hlfc b hb]; have := (hDl.2 b hb).2.1.2.1; omega) o4 key
  rw [e1] at hpo ⊢
  have hsumR : remBeds A key = (if anyNew A then 0 else 1) + (if (leafL A ((dirL A (drD A)).getD (plc A (dirL A (drD A)) key (dirL A (drD A)).length) 0)).length = 1 ∨ isNew A ((dirL A (drD A)).getD (plc A (dirL A (drD A)) key (dirL A (drD A)).length) 0) = true then 0 else 1) := rfl
  rw [hsumR] at h2
  generalize plc A (dirL A (drD A)) key (dirL A (drD A)).length = place at hpl hmem hvb hpo h2 ⊢
  have hget := q3 place hpl
  obtain ⟨g1, g2, g3, g4⟩ := hDl.2 _ hmem
  have hlA := hlfc _ hmem
  have hnw := (w5 _ hmem).2
  obtain ⟨v1, v2, v3, v4⟩ := okL_len hDB hmem
  obtain ⟨e, f1, f2⟩ := k_leaf (F := F) o3 hB1 hF v1 v2 v3
  rw [hlA] at f2 ⊢
  have hpl4 : place < (dirL (ownDirA A) (drD (ownDirA A))).length := by rw [b4]; exact hpl
  have hlfe : (dirL (ownDirA A) (drD (ownDirA A))).getD place 0 = (dirL A (drD A)).getD place 0 := by rw [b4]
  generalize hlf : (dirL A (drD A)).getD place 0 = lf at *
  generalize hL0 : leafL A lf = l at *
  have h4 := g2.2.1
  have hl1 := List.length_pos_iff.mpr g2.1
  obtain ⟨z1, z2⟩ := size_leaf (F := F) f2 (by omega)
  rw [f_X3_remove_30, k_reqState hT (b := true) (i := 32) (x := 1) (by decide) (by decide) rfl, if_pos rfl, if_pos rfl, gB3_l, k_ck h, gB1_s, o1, gB3_l, k_ck o3, gB1_s, hpo, gB2_s, q1, gB1_s, hget, gB1_s, k_ck o3, gB1_s, f1, gB2_s, z2, gB1_s, z1, gB2_s]
  by_cases cl : l.length = 1
  · rw [if_pos (show Int32.ofNat l.length ≤ (1 : Int32) from by rw [cl]; decide), if_neg (show ¬ 1 < l.length by omega)]
    obtain ⟨q, S2, y1, y2, y3⟩ := k_dwithout (κ := κ) (F := F) (j := place) (own_all (ω := ω1)) (k_base o3) hF (own_PG o4) h6 hpl
    have Y2 := own_w y2
    have h2' := GR_n o3 Y2
    have hB2 := BD_n hB1 Y2
    obtain ⟨S3, ω3, s1, e3, s3⟩ := k_setDir (F := F) h2' hB2 hF ht hdB (a := q) (p := .inr ((dirL A (drD A)).eraseIdx place)) b1 (by rw [b5]; decide) y3
    have E3 := ext_mono e3 (gT_k (t := t) (k := 1) (by omega)) (Nat.le_refl _) (Nat.le_refl _)
    have hB3 := BD_T (T := gT t) ht hB2 E3
    have hd3 : aDr (layA (ownDirA A) d.2.2 (.inr ((dirL A (drD A)).eraseIdx place))) = some d := hdB
    obtain ⟨S4, ω4, u1, e4, u3⟩ := k_leave (F := F) s3 hB3 hF ht hd3 v1
    rw [q4, gB1_s, y1, gB2_s, k_ck h2', gB1_s, s1, gB2_s, k_ck s3, gB1_s, u1, gB2_s, f_X3_remove_106, b2]
    exact ⟨S4, ω4, rfl, ext_mono (ext_trans o2 (ext_trans (nT_le Y2 (Nat.le_refl _) (Nat.le_refl _)) (ext_trans E3 e4))) (fun _ h => h) (by omega) (by omega), u3⟩
  · have hgt : 1 < l.length := by omega
    rw [if_neg (show ¬ Int32.ofNat l.length ≤ (1 : Int32) from by rw [show (1 : Int32) = Int32.ofNat 1 from rfl, i3_le (by omega) (by omega)]; omega), if_pos hgt]
    have hpof : pof l key < l.length := by
      cases hk : lkp l key with
      | none => rw [hk] at hvb; exact absurd hvb h1
      | some i => rw [pof_found g2.2.2 hk]; exact (lkp_some hk).1
    have hnz : isNew (ownDirA A) ((dirL (ownDirA A) (drD (ownDirA A))).getD place 0) = false → 0 < many (ownDirA A) := fun e => by
      rw [hlfe, hnw] at e
      rw [e, if_neg (show ¬ (l.length = 1 ∨ false = true) from fun h => h.elim cl (fun h => by cases h))] at h2
      omega
    obtain ⟨q, S2, y1, y2, y3⟩ := k_lwithout (κ := κ) (F := F) (key := key) (own_all (ω := ω1)) (k_base o3) hF (own_PG f2) g2 hpof
    have Y2 := own_w y2
    have h2' := GR_n o3 Y2
    have hB2 := BD_n hB1 Y2
    obtain ⟨S3, ω3, s1, e3, s3⟩ := k_change (F := F) (place := place) h2' hB2 hK hT hF ht w1 hdB hpl4 y3 hnz
    rw [z2, gB1_s, y1, gB2_s, k_ck h2', gB1_s, s1, gB3_l, f_X3_remove_106]
    exact ⟨S3, ω3, rfl, ext_mono (ext_trans o2 (ext_trans (nT_le Y2 (Nat.le_refl _) (Nat.le_refl _)) e3)) (fun _ h => h) (by omega) (by omega), s3⟩
theorem k_remove {n : Nat} (h : GR κ B bd σ ω t g c A) (hB : BD κ B bd σ ω) (hK : KS κ) (hT : KT κ) (hF : 64 ≤ F) (ht : 0 < t) (hw : WF n A) (key : Int32) :
    ∃ σ' ω', f_X3_remove κ F (some g) key σ = some (outE (spRem A key) eIA eIS, σ') ∧ ext (gT t) 64 1020 σ ω σ' ω' ∧ GR κ B bd σ' ω' t g c (gOf A (spRem A key)) := by
  have hgt : ext (gT t) 64 1020 σ ω (gthr σ) ω := nT_le (thr_ext σ ω) (by omega) (by omega)
  have hGt := GR_n h (thr_ext σ ω)
  unfold spRem
  rw [f_X3_remove, f_X3_remove_0, k_reqKey hT]
  cases c1 : inR key 0 99 with
  | false => exact ⟨_, ω, rfl, hgt, hGt⟩
  | true =>
    rw [if_pos rfl, if_pos rfl, gB3_l, k_ck h, gB1_s, k_drafted h hB hT hF hw key]
    cases c3 : isDr A with
    | false => exact ⟨_, ω, rfl, hgt, hGt⟩
    | true =>
      rw [if_pos rfl, if_pos rfl, gB3_l]
      show ∃ σ' ω', _ = some (outE (if true then (if valBy A (drD A) key = -1000 ∨ many A < remBeds A key then (.inr 2) else .inl (remA A key, valBy A (drD A) key)) else .inr 2) eIA eIS, σ') ∧ ext (gT t) 64 1020 σ ω σ' ω' ∧ GR κ B bd σ' ω' t g c (gOf A (if true then (if valBy A (drD A) key = -1000 ∨ many A < remBeds A key then (.inr 2) else .inl (remA A key, valBy A (drD A) key)) else .inr 2))
      by_cases c4 : valBy A (drD A) key = -1000
      · rw [if_pos c4, f_X3_remove_29, f_X3_remove_30, k_reqState hT (b := false) (i := 32) (x := 0) (by decide) (by decide) rfl, if_pos rfl, if_pos (Or.inl c4)]
        exact ⟨_, ω, rfl, hgt, hGt⟩
      · obtain ⟨d, hd⟩ := isDr_d c3
        obtain ⟨S1, r1, r2⟩ := k_canRemove (F := F) (key := key) h hB hK hF hw hd (fun e => c4 (valBy_nil e))
        have h1 := GR_n h r2
        have hB1 := BD_n hB r2
        rw [if_neg c4, k_ck h, gB1_s, r1, gB2_s]
        by_cases c5 : many A < remBeds A key
        · rw [if_pos c5, if_pos rfl, f_X3_remove_29, f_X3_remove_30, k_reqState hT (b := false) (i := 32) (x := 0) (by decide) (by decide) rfl, if_pos rfl, if_pos (Or.inr c5)]
          exact ⟨gthr S1, ω, rfl, nT_le (ext_trans r2 (thr_ext S1 ω)) (by omega) (by omega), GR_n h1 (thr_ext S1 ω)⟩
        · obtain ⟨S2, ω2, p1, p2, p3⟩ := k_rem30 (F := F) (r := valBy A (drD A) key) h1 hB1 hK hT hF ht hw c3 c4 c5
          rw [if_neg c5, if_neg (by decide), p1, if_pos rfl, if_neg (show ¬ (valBy A (drD A) key = -1000 ∨ many A < remBeds A key) from fun e => e.elim c4 c5)]
          exact ⟨S2, ω2, rfl, ext_mono (ext_trans (nT_le r2 (Nat.le_refl _) (Nat.le_refl _)) p2) (fun _ h => h) (by omega) (by omega), p3⟩
end C
