set_option maxRecDepth 100000
/-! the component's session: whole, next bed, type, clear, undo, digest -/
theorem i3_div {a b : Nat} (ha : a < 2147483648) (hb : b < 2147483648) : Int32.ofNat a / Int32.ofNat b = Int32.ofNat (a / b) := by
  have h1 : a / b ≤ a := Nat.div_le_self a b
  apply Int32.toInt_inj.mp
  rw [Int32.toInt_div, Int32.toInt_ofNat_small ha, Int32.toInt_ofNat_small hb, Int32.toInt_ofNat_small (by omega)]
  have h2 : (Int.tdiv (a : Int) (b : Int)) = ((a / b : Nat) : Int) := rfl
  rw [h2]
  generalize a / b = q at h1 ⊢
  rw [Int.bmod_eq_of_le (by omega) (by omega)]
section C
variable {κ : gK} {B : Nat → Nat} {bd : Nat} {F : Nat} {σ : gS} {ω : Nat → Nat} {o : Nat} {S : aS}
theorem i3_dm {k w : Nat} (hk : k < 1000) (hw : w < 1000) : Int32.ofNat k / Int32.ofNat w = Int32.ofNat (k / w) ∧ Int32.ofNat k - Int32.ofNat k / Int32.ofNat w * Int32.ofNat w = Int32.ofNat (k % w) := by
  have h1 : k / w * w ≤ k := Nat.div_mul_le_self k w
  refine ⟨i3_div (by omega) (by omega), ?_⟩
  rw [i3_div (by omega) (by omega), i3_mul, i3_sub h1]
  refine congrArg _ ?_
  have := Nat.div_add_mod k w
  rw [Nat.mul_comm] at this
  omega
theorem km_len (h : KM κ B bd σ ω o S) : gfI σ (some o) 0 3 = some (Int32.ofNat S.2.2.length) := by
  obtain ⟨t, g, c, sv, cm, fc, L, h1, _⟩ := h
  rw [gfI_u, h1.1]; rfl
theorem k_wholeOf {n : Nat} (hK : KS κ) (hF : 64 ≤ F) (h : KM κ B bd σ ω o S) (hw : WS n S) {w : Nat} (hw15 : w < 15) : f_X1_wholeOf κ F (some o) (Int32.ofNat w) σ = some (vTellS S w, σ) := by
  obtain ⟨t, g, c, r0, _, hg, hB, _⟩ := km_cur h
  unfold vTellS
  rw [f_X1_wholeOf, f_X1_wholeOf_0]
  by_cases e : w = 14
  · rw [if_pos (by rw [e]; rfl), km_len h, gB1_s, if_pos e, f_X1_wholeOf_21]
  · rw [if_neg (by rw [show (14 : Int32) = Int32.ofNat 14 from rfl, i3_inj (by omega) (by omega)]; exact e), r0, gB1_s, k_ck hg, gB1_s, k_value hg hB hK hF hw.1 (by omega), gB2_s, if_neg e, f_X1_wholeOf_21]
theorem x_whole {n : Nat} (hK : KS κ) (hT : KT κ) (hF : 64 ≤ F) (h : KM κ B bd σ ω o S) (hw : WS n S) (w : Int32) (e2 e3 : String) : CO κ B bd o σ ω (f_X1_whole κ F (some o) w σ) ((spWhole S w).1, (spWhole S w).2, S) eIA e2 e3 := by
  obtain ⟨t, g, c, r0, rk, hg, hB, _⟩ := km_cur h
  rw [f_X1_whole, f_X1_whole_0, show (15 : Int32) = Int32.ofNat 15 from rfl, k_reqWhat hT w (by omega), show Int32.ofNat (15 - 1) = 14 from rfl]
  unfold spWhole
  cases c2 : inR w 0 14 with
  | false => exact co_thr (r := (1, 0)) h rfl
  | true =>
    obtain ⟨j, hj, rfl⟩ := inR_nat (b := 14) (by omega) c2
    rw [if_pos rfl, if_pos rfl, gB3_l, rk, gB1_s, k_wholeOf hK hF h hw (by omega), gB2_s, (i3_ok (show j < 2147483648 by omega)).2, if_pos rfl]
    exact co_id (r := (0, _)) h rfl
theorem x_nextBed (hK : KS κ) (hF : 64 ≤ F) (h : KM κ B bd σ ω o S) : f_X1_nextBed κ F (some o) σ = some (vNext S.1, σ) := by
  obtain ⟨t, g, c, r0, rk, hg, hB, _⟩ := km_cur h
  rw [f_X1_nextBed, f_X1_nextBed_0, r0, gB1_s, k_ck hg, gB1_s, k_nextBed hg hK (by omega), gB2_s]
  rfl
/-- the commands' length is written -/
theorem km_setlen (h : KM κ B bd σ ω o S) {tx : List Int32} (hx : ∀ i, i < tx.length → tx.getD i 0 = S.2.2.getD i 0) (hl : tx.length ≤ S.2.2.length) : ∃ σ', gpf κ σ (some o) 0 3 (.int (Int32.ofNat tx.length)) = some σ' ∧ ext (fun x => x = 1) 0 0 σ ω σ' ω ∧ KM κ B bd σ' ω o (S.1, S.2.1, tx) := by
  obtain ⟨t, g, c, sv, cm, fc, L, h1, h2, h3, h4, h5, h6, h7, h8, h9, h10⟩ := h
  have s1 := oc_pf (v := .int (Int32.ofNat tx.length)) h1 (k := 3) (show 3 < 4 by decide)
  have e1 := oc_ext_up h1 (.inr (0, [.ref g, .ref sv, .ref cm, .int (Int32.ofNat tx.length)])) (fun x => x = 1) rfl
  have b1 := oc_up h1 (.inr (0, [.ref g, .ref sv, .ref cm, .int (Int32.ofNat tx.length)]))
  have no : ∀ x, x ≠ 1 → ¬ (fun x => x = 1) x := fun x h e => h e
  exact ⟨_, s1, e1, t, g, c, sv, cm, fc, L, b1, h2, GR_mv h3 e1 (fun y hy => no y (by have := hy.1; omega)) (no _ (by omega)), AL_mv h4 e1 (no _ (by omega)) (no _ (by omega)) (no _ (by omega)), SL_mv e1 (no _ (by omega)) h5 (fun x hx y hy => no y (by have := (h6.1 x hx).1; have := hy.1; omega)), h6, oc_mv h7 e1 (no _ (by omega)), (fun i hi => by rw [h8 i (by have hi : i < tx.length := hi; omega)]; exact (hx i hi).symm), BD_mv h9 e1 (no _ (by omega)), KQ_mv h10 e1 (no _ (by omega))⟩
theorem x_clear (h : KM κ B bd σ ω o S) : ∃ σ', f_X1_clearCommands κ F (some o) σ = some (Int32.ofNat S.2.2.length, σ') ∧ ext cT 400 12000 σ ω σ' ω ∧ KM κ B bd σ' ω o (S.1, S.2.1, []) := by
  obtain ⟨σ', q1, q2, q3⟩ := km_setlen h (tx := []) (fun i hi => absurd hi (Nat.not_lt_zero _)) (Nat.zero_le _)
  refine ⟨σ', ?_, ext_mono q2 (fun x hx => by have hx : x = 1 := hx; exact ⟨by omega, by omega, by omega⟩) (by omega) (by omega), q3⟩
  rw [f_X1_clearCommands, f_X1_clearCommands_0, km_len h, gB1_s, show gpf κ σ (some o) 0 3 (.int (0 : Int32)) = some σ' from q1, gB1_s]
theorem i8_byte {v : Int32} (h : inR v 0 127 = true) : v.toInt8.toInt32 = v ∧ 0 ≤ v ∧ v ≤ 127 := by
  obtain ⟨k, hk, rfl⟩ := inR_nat (b := 127) (by omega) h
  refine ⟨?_, ?_, ?_⟩
  · apply Int32.toInt_inj.mp
    rw [Int8.toInt_toInt32, Int32.toInt_toInt8, Int32.toInt_ofNat_small (by omega)]
    exact Int.bmod_eq_of_le (by omega) (by omega)
  · rw [show (0 : Int32) = Int32.ofNat 0 from rfl, i3_le (by omega) (by omega)]; omega
  · rw [show (127 : Int32) = Int32.ofNat 127 from rfl, i3_le (by omega) (by omega)]; exact hk
theorem x_type {n : Nat} (hT : KT κ) (h : KM κ B bd σ ω o S) (hw : WS n S) (v : Int32) (e3 : String) : CO κ B bd o σ ω (f_X1_type κ F (some o) v σ) (spType S v) eIA eIS e3 := by
  rw [f_X1_type, f_X1_type_0, lg_in (a := 0) (b := 127) (by decide) (by decide), gB2_s, k_reqArg hT (b := inR v 0 127) (i := 21) (by decide) (by decide) rfl]
  unfold spType
  have hlen := hw.2.2.2.1
  cases c1 : inR v 0 127 with
  | false => exact co_thr (r := (1, 0)) h rfl
  | true =>
    obtain ⟨b1, b2, b3⟩ := i8_byte c1
    rw [if_pos rfl, if_pos rfl, gB3_l, km_len h, gB1_s, if_pos rfl]
    by_cases e : S.2.2.length = 150
    · rw [if_pos (by rw [e]; decide), f_X1_type_29, k_reqState hT (b := false) (i := 22) (x := 0) (by decide) (by decide) rfl, if_pos e]
      exact co_thr (r := (2, 0)) h rfl
    · rw [if_neg (by rw [show (150 : Int32) = Int32.ofNat 150 from rfl, i3_le (by omega) (by omega)]; omega), f_X1_type_29, k_reqState hT (b := true) (i := 22) (x := 1) (by decide) (by decide) rfl, if_pos rfl, if_pos rfl, gB3_l, if_neg e]
      have hl0 := km_len h
      obtain ⟨t, g, c, sv, cm, fc, L, h1, h2, h3, h4, h5, h6, h7, h8, h9, h10⟩ := h
      have r2 : gfR σ (some o) 0 2 = some (some cm) := by rw [gfR_u, h1.1]; rfl
      have s1 : gsB κ σ (some cm) (Int32.ofNat S.2.2.length) (v.toInt8.toInt32) = some (gup σ cm (.inl (2, 150, .inl (va_up fc S.2.2.length v)))) := by
        unfold gsB
        simp only
        rw [h7.1]
        simp only
        rw [if_pos ⟨trivial, by rw [(i3_ok (show S.2.2.length < 2147483648 by omega)).2]; intro h; rcases h with h | h; exact (i3_ok (show S.2.2.length < 2147483648 by omega)).1 h; omega, h7.2.2.2⟩, (i3_ok (show S.2.2.length < 2147483648 by omega)).2, b1, b1]
      have e1 := oc_ext_up h7 (.inl (2, 150, .inl (va_up fc S.2.2.length v))) (fun x => x = 4) rfl
      have h71 := oc_up h7 (.inl (2, 150, .inl (va_up fc S.2.2.length v)))
      have no4 : ∀ x, x ≠ 4 → ¬ (fun x => x = 4) x := fun x h e => h e
      have h11 := oc_mv h1 e1 (no4 _ (by omega))
      generalize gup σ cm (.inl (2, 150, .inl (va_up fc S.2.2.length v))) = S1 at s1 e1 h71 h11
      have r3 : gfI S1 (some o) 0 3 = some (Int32.ofNat S.2.2.length) := by rw [gfI_u, h11.1]; rfl
      have s2 := oc_pf (v := .int (Int32.ofNat S.2.2.length + 1)) h11 (k := 3) (show 3 < 4 by decide)
      rw [i3_s] at s2
      have e2 := oc_ext_up h11 (.inr (0, [.ref g, .ref sv, .ref cm, .int (Int32.ofNat (S.2.2.length + 1))])) (fun x => x = 1) rfl
      have h12 := oc_up h11 (.inr (0, [.ref g, .ref sv, .ref cm, .int (Int32.ofNat (S.2.2.length + 1))]))
      have s2' : gpf κ S1 (some o) 0 3 (.int (Int32.ofNat (S.2.2.length + 1))) = some (gup S1 o (.inr (0, [.ref g, .ref sv, .ref cm, .int (Int32.ofNat (S.2.2.length + 1))]))) := s2
      have E : ext (fun x => x = 4 ∨ x = 1) 0 0 σ ω (gup S1 o (.inr (0, [.ref g, .ref sv, .ref cm, .int (Int32.ofNat (S.2.2.length + 1))]))) ω := ext_mono (ext_trans (ext_mono e1 (fun _ h => Or.inl h) (Nat.le_refl _) (Nat.le_refl _)) (ext_mono e2 (fun _ h => Or.inr h) (Nat.le_refl _) (Nat.le_refl _))) (fun _ h => h) (by omega) (by omega)
      have h72 := oc_mv h71 e2 (show ¬ (4 = 1) by omega)
      generalize gup S1 o (.inr (0, [.ref g, .ref sv, .ref cm, .int (Int32.ofNat (S.2.2.length + 1))])) = S2 at s2' h12 E h72
      have r4 : gfI S2 (some o) 0 3 = some (Int32.ofNat (S.2.2.length + 1)) := by rw [gfI_u, h12.1]; rfl
      have no : ∀ x, x ≠ 4 → x ≠ 1 → ¬ (fun x => x = 4 ∨ x = 1) x := fun x h h2 e => e.elim h h2
      have hl2 : (S.2.2 ++ [v]).length = S.2.2.length + 1 := by rw [List.length_append]; rfl
      rw [r2, gB1_s, hl0, gB1_s, s1, gB1_s, r3, gB1_s, i3_s, s2', gB1_s, r4, gB1_s]
      refine ⟨S2, ω, rfl, ext_mono E (fun x hx => by have hx : x = 4 ∨ x = 1 := hx; exact ⟨by omega, by omega, by omega⟩) (by omega) (by omega), t, g, c, sv, cm, va_up fc S.2.2.length v, L, ?_, h2, GR_mv h3 E (fun y hy => no y (by have := hy.1; omega) (by have := hy.1; omega)) (no _ (by omega) (by omega)), AL_mv h4 E (no _ (by omega) (by omega)) (no _ (by omega) (by omega)) (no _ (by omega) (by omega)), SL_mv E (no _ (by omega) (by omega)) h5 (fun x hx y hy => no y (by have := (h6.1 x hx).1; have := hy.1; omega) (by have := (h6.1 x hx).1; have := hy.1; omega)), h6, h72, (fun i hi => ?_), BD_mv h9 E (no _ (by omega) (by omega)), KQ_mv h10 E (no _ (by omega) (by omega))⟩
      · show oc κ S2 ω 1 o (.inr (0, [.ref g, .ref sv, .ref cm, .int (Int32.ofNat (S.2.2 ++ [v]).length)]))
        rw [hl2]; exact h12
      · have hi : i < (S.2.2 ++ [v]).length := hi
        rw [hl2] at hi
        show va_up fc S.2.2.length v i = (S.2.2 ++ [v]).getD i 0
        by_cases e2 : i = S.2.2.length
        · rw [e2, vup_at]; simp
        · rw [vup_ne e2, h8 i (by omega)]
          simp [List.getD_eq_getElem?_getD, List.getElem?_append_left (show i < S.2.2.length by omega)]
theorem x_undo {n : Nat} (hT : KT κ) (h : KM κ B bd σ ω o S) (hw : WS n S) (e2 e3 : String) : CO κ B bd o σ ω (f_X1_undo κ F (some o) σ) (spUndo S) eIS e2 e3 := by
  have hkm := h
  obtain ⟨t, g, c, sv, cm, fc, L, h1, h2, h3, h4, h5, h6, h7, h8, h9, h10⟩ := h
  have r1 : gfR σ (some o) 0 1 = some (some sv) := by rw [gfR_u, h1.1]; rfl
  obtain ⟨z1, z2⟩ := al_size (F := F) h4
  have hLl := SL_len h5
  have hl4 := hw.2.1
  rw [List.length_map] at z1
  unfold spUndo
  rw [f_X1_undo, f_X1_undo_0, r1, gB1_s, z2, gB1_s, z1, gB2_s]
  by_cases e : S.2.1 = []
  · have h0 : L.length = 0 := by rw [hLl, e]; rfl
    rw [if_pos (by rw [h0]; decide), f_X1_undo_15, k_reqState hT (b := false) (i := 23) (x := 0) (by decide) (by decide) rfl, if_pos e]
    exact co_thr (r := (1, 0)) hkm rfl
  · rw [if_neg (show ¬ Int32.ofNat L.length ≤ (0 : Int32) from by rw [show (0 : Int32) = Int32.ofNat 0 from rfl, i3_le (by omega) (by omega)]; have : S.2.1.length ≠ 0 := fun h => e (List.eq_nil_of_length_eq_zero h); omega), f_X1_undo_15, k_reqState hT (b := true) (i := 23) (x := 1) (by decide) (by decide) rfl, if_pos rfl, if_pos rfl, gB3_l, if_neg e, r1, gB1_s, gB1_s, z2, gB1_s, z1, gB2_s, z2, gB1_s]
    have hne : L ≠ [] := fun h => e (List.eq_nil_of_length_eq_zero (by rw [← hLl, h]; rfl))
    obtain ⟨L0, x, rfl⟩ : ∃ L0 x, L = L0 ++ [x] := ⟨L.dropLast, L.getLast hne, (List.dropLast_concat_getLast hne).symm⟩
    obtain ⟨LA, A, hA, s5, gx⟩ := SL_uns h5
    have hll : (L0 ++ [x]).length = L0.length + 1 := by rw [List.length_append]; rfl
    have hl0 : L0.length = LA.length := SL_len s5
    obtain ⟨S2, q1, q2, q3, q4⟩ := al_rem (F := F) h4 (by rw [List.length_map]; omega) (k := L0.length) (by rw [List.length_map]; omega) (fun i hi => SL_cell h5 hi)
    have q4 := q4 (by rw [List.length_map]; omega)
    have hget : ((L0 ++ [x]).map (fun x => x.2.1)).getD L0.length 0 = x.2.1 := by
      rw [List.map_append, List.getD_eq_getElem?_getD, List.getElem?_append_right (by rw [List.length_map]; exact Nat.le_refl _), List.length_map, Nat.sub_self]; rfl
    have hdl : ((L0 ++ [x]).map (fun x => x.2.1)).dropLast = L0.map (fun x => x.2.1) := by
      rw [List.map_append]; exact List.dropLast_concat
    rw [hdl] at q4
    rw [hget] at q1
    have n2 : ∀ y, y ≠ 2 → y ≠ 3 → ¬ ((fun x => x = 2 ∨ x = 3) y) := fun y h1 h2 h => h.elim h1 h2
    have hx6 := h6.1 x (List.mem_append_right _ List.mem_cons_self)
    have gx2 := GR_mv gx q2 (fun y hy => n2 y (by have := hy.1; omega) (by have := hy.1; omega)) (n2 _ (by omega) (by omega))
    have hL0 : ∀ y ∈ L0, 16 ≤ y.1 := fun y hy => (h6.1 y (List.mem_append_left _ hy)).1
    have s52 := SL_mv q2 (n2 _ (by omega) (by omega)) s5 (fun y hy z hz => n2 z (by have := hL0 y hy; have := hz.1; omega) (by have := hL0 y hy; have := hz.1; omega))
    have h12 := oc_mv h1 q2 (n2 _ (by omega) (by omega))
    have s3 := oc_pf (v := .ref x.2.1) h12 (k := 0) (show 0 < 4 by decide)
    have e3 := oc_ext_up h12 (.inr (0, [.ref x.2.1, .ref sv, .ref cm, .int (Int32.ofNat S.2.2.length)])) (fun x => x = 1) rfl
    have h13 := oc_up h12 (.inr (0, [.ref x.2.1, .ref sv, .ref cm, .int (Int32.ofNat S.2.2.length)]))
    have s3' : gpf κ S2 (some o) 0 0 (.ref x.2.1) = some (gup S2 o (.inr (0, [.ref x.2.1, .ref sv, .ref cm, .int (Int32.ofNat S.2.2.length)]))) := s3
    have n1 : ∀ y, y ≠ 1 → ¬ ((fun x => x = 1) y) := fun y h1 h => h1 h
    have q4' := AL_mv q4 e3 (n1 _ (by omega)) (n1 _ (by omega)) (n1 _ (by omega))
    generalize gup S2 o (.inr (0, [.ref x.2.1, .ref sv, .ref cm, .int (Int32.ofNat S.2.2.length)])) = S3 at s3' e3 h13 q4'
    have E : ext (fun x => x = 2 ∨ x = 3 ∨ x = 1) 0 0 σ ω S3 ω := ext_mono (ext_trans (ext_mono q2 (fun _ h => h.elim Or.inl (fun h => Or.inr (Or.inl h))) (Nat.le_refl _) (Nat.le_refl _)) (ext_mono e3 (fun _ h => Or.inr (Or.inr h)) (Nat.le_refl _) (Nat.le_refl _))) (fun _ h => h) (by omega) (by omega)
    have no : ∀ y, y ≠ 1 → y ≠ 2 → y ≠ 3 → ¬ ((fun x => x = 2 ∨ x = 3 ∨ x = 1) y) := fun y h1 h2 h3 h => by
      rcases h with h | h | h
      · exact h2 h
      · exact h3 h
      · exact h1 h
    have r13 : gfR S3 (some o) 0 1 = some (some sv) := by rw [gfR_u, h13.1]; rfl
    obtain ⟨y1, y2⟩ := al_size (F := F) q4'
    rw [List.length_map] at y1
    rw [hll, i3_p1, q1, gB2_s, gcc_eq gx2.1.1, gB1_s]
    show CO κ B bd o σ ω (gB1 (gpf κ S2 (some o) 0 0 (.ref x.2.1)) _) _ _ _ _
    rw [s3', gB1_s, r13, gB1_s, y2, gB1_s, y1, gB2_s]
    have hAl : S.2.1.length = LA.length + 1 := by rw [hA, List.length_append]; rfl
    have hg1 : S.2.1.getD (S.2.1.length - 1) A00 = A := by
      rw [hAl, hA, List.getD_eq_getElem?_getD, List.getElem?_append_right (by omega), show LA.length + 1 - 1 - LA.length = 0 by omega]; rfl
    have hg2 : S.2.1.dropLast = LA := by rw [hA]; exact List.dropLast_concat
    refine ⟨S3, ω, ?_, ext_mono E (fun x hx => by have hx : x = 2 ∨ x = 3 ∨ x = 1 := hx; exact ⟨by omega, by omega, by omega⟩) (by omega) (by omega), x.1, x.2.1, x.2.2, sv, cm, fc, L0, h13, hx6.1, ?_, q4', ?_, ?_, oc_mv h7 E (no _ (by omega) (by omega) (by omega)), h8, BD_mv h9 E (no _ (by omega) (by omega) (by omega)), KQ_mv h10 E (no _ (by omega) (by omega) (by omega))⟩
    · rw [hAl, ← hl0]; rfl
    · show GR κ B bd S3 ω x.1 x.2.1 x.2.2 (S.2.1.getD (S.2.1.length - 1) A00)
      rw [hg1]
      exact GR_mv gx2 e3 (fun y hy => n1 y (by have := hy.1; omega)) (n1 _ (by omega))
    · show SL κ B bd S3 ω L0 S.2.1.dropLast
      rw [hg2]
      exact SL_mv e3 (n1 _ (by omega)) s52 (fun y hy z hz => n1 z (by have := hL0 y hy; have := hz.1; omega))
    · have hp := List.pairwise_append.mp h6.2
      exact ⟨fun y hy => ⟨hL0 y hy, hp.2.2 y hy x List.mem_cons_self⟩, hp.1⟩
end C
