/-! resize: the buckets are spread over a table of twice the size -/
def nxj (n j : Nat) : mE → List mE → Option Nat := fun y Ly => if y.2.1 % n < j then hb (2 * n) (y.2.1 % (2 * n)) Ly else hb n (y.2.1 % n) Ly
def rsN (n j : Nat) (L : List mE) : Nat → Option Nat := fun i => if i % n < j then hb (2 * n) i L else none
def rsO (n j : Nat) (L : List mE) : Nat → Option Nat := fun i => if i < j then none else hb n i L
def rsI (κ : gK) (B : Nat → Nat) (σ : gS) (ω : Nat → Nat) (t n a a' j : Nat) (L : List mE) : Prop :=
  oc κ σ ω t a (.inl (7, n, .inr (.inr (.inr (.inr (rsO n j L)))))) ∧ oc κ σ ω t a' (.inl (7, 2 * n, .inr (.inr (.inr (.inr (rsN n j L)))))) ∧ EnX κ B σ ω t (nxj n j) none L ∧ a ≠ a'
theorem hb2_none {n i j : Nat} {L : List mE} (h : hb n j L = none) (hi : i % n = j) : hb (2 * n) i L = none := by
  rw [hb_none] at h ⊢
  intro x hx e
  refine h x hx ?_
  rw [← hi, ← e, Nat.mod_mul_left_mod]
theorem rs_congr {n j : Nat} {L A C : List mE} {x : mE} (hL : L = A ++ x :: C) (hx : x.2.1 % n ≠ j) : nxj n j x C = nxj n (j + 1) x C := by
  unfold nxj
  by_cases h : x.2.1 % n < j
  · rw [if_pos h, if_pos (by omega)]
  · rw [if_neg h, if_neg (by omega)]
theorem gok7 {κ : gK} {σ : gS} {e : Nat} {fs : List Value} (h : σ.1 e = some (.inr (11, fs))) : gokR κ σ 7 (some e) := by
  simp only [gokR, h]
  exact Or.inl (by decide)
theorem mask2 (n k : Nat) (hk : k < 32) (hn : n = 16 ∨ n = 32) : Int32.ofNat k &&& (Int32.ofNat (2 * n) - (1 : Int32)) = Int32.ofNat (k % (2 * n)) := by
  rcases hn with rfl | rfl
  · have h : ∀ k : Fin 32, Int32.ofNat k.val &&& (Int32.ofNat (2 * 16) - (1 : Int32)) = Int32.ofNat (k.val % (2 * 16)) := by decide +kernel
    exact h ⟨k, hk⟩
  · have h : ∀ k : Fin 32, Int32.ofNat k.val &&& (Int32.ofNat (2 * 32) - (1 : Int32)) = Int32.ofNat (k.val % (2 * 32)) := by decide +kernel
    exact h ⟨k, hk⟩
theorem bit16 (k : Nat) (hk : k < 32) : (Int32.ofNat k &&& Int32.ofNat 16 = 0) ↔ k < 16 := by
  have h : ∀ k : Fin 32, (Int32.ofNat k.val &&& Int32.ofNat 16 = 0) ↔ k.val < 16 := by decide +kernel
  exact h ⟨k, hk⟩
theorem rsO_up (n j : Nat) (L : List mE) : va_up (rsO n j L) j none = rsO n (j + 1) L := by
  funext i
  unfold va_up rsO
  by_cases h : i = j
  · rw [if_pos h, if_pos (by omega)]
  · rw [if_neg h]
    by_cases h2 : i < j
    · rw [if_pos h2, if_pos (by omega)]
    · rw [if_neg h2, if_neg (by omega)]
/-- one bucket, one entry -/
theorem rsN_1 {n j : Nat} {L A C : List mE} {x : mE} (hL : L = A ++ x :: C) (hx : x.2.1 % n = j) (hA : hb n j A = none) (hC : hb n j C = none) : va_up (rsN n j L) (x.2.1 % (2 * n)) (some x.1) = rsN n (j + 1) L := by
  funext i
  unfold va_up rsN
  by_cases h : i = x.2.1 % (2 * n)
  · subst h
    have h2 : x.2.1 % (2 * n) % n = j := by rw [Nat.mod_mul_left_mod]; exact hx
    rw [if_pos rfl, if_pos (by omega), hL, hb_app, hb2_none hA h2, hb_cons, if_pos rfl]; rfl
  · rw [if_neg h]
    by_cases h2 : i % n < j
    · rw [if_pos h2, if_pos (by omega)]
    · rw [if_neg h2]
      by_cases h3 : i % n = j
      · rw [if_pos (by omega), hL, hb_app, hb2_none hA h3, hb_cons, if_neg (fun e => h e.symm), hb2_none hC h3]; rfl
      · rw [if_neg (by omega)]
theorem hb_key {N : Nat} {L A C : List mE} {x : mE} (hnd : (L.map (fun x => x.2.1)).Nodup) (hL : L = A ++ x :: C) (h32 : ∀ y ∈ L, y.2.1 < N) : hb N x.2.1 L = some x.1 ∧ hb N x.2.1 C = none := by
  have hx := h32 x (by rw [hL]; simp)
  have hA : hb N x.2.1 A = none := hb_none.mpr fun y hy e => nodup_key hnd hL (Or.inl hy) (by rw [← e, Nat.mod_eq_of_lt (h32 y (by rw [hL]; simp [hy]))])
  refine ⟨?_, hb_none.mpr fun y hy e => nodup_key hnd hL (Or.inr hy) (by rw [← e, Nat.mod_eq_of_lt (h32 y (by rw [hL]; simp [hy]))])⟩
  rw [hL, hb_app, hA, hb_cons, if_pos (Nat.mod_eq_of_lt hx)]; rfl
set_option maxHeartbeats 4000000 in
theorem rs_end {κ : gK} {B : Nat → Nat} {F : Nat} {σ : gS} {ω : Nat → Nat} {t m j a a' : Nat} {L Al Cl Ah Ch : List mE} {xl xh : mE} (hO : oc κ σ ω t a (.inl (7, 16, .inr (.inr (.inr (.inr (rsO 16 (j + 1) L))))))) (hN : oc κ σ ω t a' (.inl (7, 2 * 16, .inr (.inr (.inr (.inr (rsN 16 j L))))))) (hE : EnX κ B σ ω t (nxj 16 j) none L) (haa : a ≠ a') (hnd : (L.map (fun x => x.2.1)).Nodup) (hj : j < 16)
    (hl : L = Al ++ xl :: Cl) (hh : L = Ah ++ xh :: Ch) (kl : xl.2.1 = j) (kh : xh.2.1 = j + 16) (k : Option Nat → Option Nat → Int32 → Int32 → Option Nat → Int32 → gS → Option ((Option Nat) × gS)) (k2 : Option Nat → Option Nat → Int32 → Int32 → Option Nat → Int32 → Option Nat → Option Nat → Option Nat → Option Nat → Option Nat → gS → Option ((Option Nat) × gS)) :
    ∃ σ', f_J1_resize_301 κ F k k2 (some m) (some a) (Int32.ofNat 16) (Int32.ofNat (2 * 16)) (some a') (Int32.ofNat j) (some xl.1) (some xl.1) (some xh.1) (some xh.1) none σ = k (some m) (some a) (Int32.ofNat 16) (Int32.ofNat (2 * 16)) (some a') (Int32.ofNat (j + 1)) σ' ∧ ext (fun x => x = t) 0 0 σ ω σ' ω ∧ rsI κ B σ' ω t 16 a a' (j + 1) L ∧ (∀ b fs, oc κ σ ω t b (.inr (10, fs)) → oc κ σ' ω t b (.inr (10, fs))) := by
  have hj1 : Int32.ofNat j + (1 : Int32) = Int32.ofNat (j + 1) := i3_add j 1
  have hjn : Int32.ofNat j + Int32.ofNat 16 = Int32.ofNat (j + 16) := i3_add j 16
  have h32 : ∀ y ∈ L, y.2.1 < 2 * 16 := fun y hy => by
    obtain ⟨A, C, e⟩ := List.append_of_mem hy
    exact ((EnX_iff _ _).mp hE A y C e).2
  have hxl := ((EnX_iff _ _).mp hE Al xl Cl hl).1
  have hxh := ((EnX_iff _ _).mp hE Ah xh Ch hh).1
  have hal : a ≠ xl.1 := oc_ne hO hxl (by simp [enX])
  have hah : a ≠ xh.1 := oc_ne hO hxh (by simp [enX])
  have hnl : a' ≠ xl.1 := oc_ne hN hxl (by simp [enX])
  have hnh : a' ≠ xh.1 := oc_ne hN hxh (by simp [enX])
  -- the low one
  obtain ⟨g1, hE1⟩ := EnX_setn hE hnd hl none
  rw [f_J1_resize_301, if_pos rfl, if_neg (by simp), g1, gB1_s]
  have hO1 := oc_up_ne hO hal (enX B none (prv none Al) xl Cl)
  have hN1 := oc_up_ne hN hnl (enX B none (prv none Al) xl Cl)
  have he1 : ext (fun x => x = t) 0 0 σ ω (gup σ xl.1 (enX B none (prv none Al) xl Cl)) ω := oc_ext_up hxl _ _ rfl
  have hM1 : ∀ b fs, oc κ σ ω t b (.inr (10, fs)) → oc κ (gup σ xl.1 (enX B none (prv none Al) xl Cl)) ω t b (.inr (10, fs)) := fun b fs h => oc_up_ne h (oc_ne h hxl (by simp [enX])) _
  have hxl1 := oc_up hxl (enX B none (prv none Al) xl Cl)
  generalize gup σ xl.1 (enX B none (prv none Al) xl Cl) = σ1 at hO1 hN1 hE1 he1 hM1 hxl1
  rw [oc_sR hN1 (by decide) (show j < 2 * 16 by omega) (by omega) (v := some xl.1) (gok7 hxl1.1), gB1_s]
  have hO2 := oc_up_ne hO1 haa (.inl (7, 2 * 16, .inr (.inr (.inr (.inr (va_up (rsN 16 j L) j (some xl.1)))))))
  have hN2 := oc_up hN1 (.inl (7, 2 * 16, .inr (.inr (.inr (.inr (va_up (rsN 16 j L) j (some xl.1)))))))
  have he2 := ext_trans he1 (oc_ext_up hN1 (.inl (7, 2 * 16, .inr (.inr (.inr (.inr (va_up (rsN 16 j L) j (some xl.1))))))) (fun x => x = t) rfl)
  have hM2 : ∀ b fs, oc κ σ ω t b (.inr (10, fs)) → oc κ (gup σ1 a' (.inl (7, 2 * 16, .inr (.inr (.inr (.inr (va_up (rsN 16 j L) j (some xl.1)))))))) ω t b (.inr (10, fs)) := fun b fs h => oc_up_ne (hM1 b fs h) (oc_ne (hM1 b fs h) hN1 (by simp)) _
  have hE2 := EnX_same (σ1 := gup σ1 a' (.inl (7, 2 * 16, .inr (.inr (.inr (.inr (va_up (rsN 16 j L) j (some xl.1)))))))) (ω1 := ω) L none (fun y hy c hc => by
      obtain ⟨fs, hy1⟩ := EnX_oc hE1 hy
      exact oc_up_ne hc (oc_ne hy1 hN1 (by simp)) _) hE1
  generalize (gup σ1 a' (.inl (7, 2 * 16, .inr (.inr (.inr (.inr (va_up (rsN 16 j L) j (some xl.1)))))))) = σ2 at hO2 hN2 he2 hM2 hE2
  -- the high one
  obtain ⟨g3, hE3⟩ := EnX_setn hE2 hnd hh none
  rw [f_J1_resize_327, if_neg (by simp), g3, gB1_s, hjn]
  have hxh2 := ((EnX_iff _ _).mp hE2 Ah xh Ch hh).1
  have hO3 := oc_up_ne hO2 hah (enX B none (prv none Ah) xh Ch)
  have hN3 := oc_up_ne hN2 hnh (enX B none (prv none Ah) xh Ch)
  have he3 := ext_trans he2 (oc_ext_up hxh2 (enX B none (prv none Ah) xh Ch) (fun x => x = t) rfl)
  have hM3 : ∀ b fs, oc κ σ ω t b (.inr (10, fs)) → oc κ (gup σ2 xh.1 (enX B none (prv none Ah) xh Ch)) ω t b (.inr (10, fs)) := fun b fs h => oc_up_ne (hM2 b fs h) (oc_ne (hM2 b fs h) hxh2 (by simp [enX])) _
  have hxh3 := oc_up hxh2 (enX B none (prv none Ah) xh Ch)
  generalize gup σ2 xh.1 (enX B none (prv none Ah) xh Ch) = σ3 at hO3 hN3 hE3 he3 hM3 hxh3
  rw [oc_sR hN3 (by decide) (show j + 16 < 2 * 16 by omega) (by omega) (v := some xh.1) (gok7 hxh3.1), gB1_s, f_J1_resize_347, hj1]
  have hT : va_up (va_up (rsN 16 j L) j (some xl.1)) (j + 16) (some xh.1) = rsN 16 (j + 1) L := by
    funext i
    unfold va_up rsN
    by_cases h1 : i = j + 16
    · rw [if_pos h1, if_pos (by omega), h1, ← kh, (hb_key hnd hh h32).1]
    · rw [if_neg h1]
      by_cases h2 : i = j
      · rw [if_pos h2, if_pos (by omega), h2, ← kl, (hb_key hnd hl h32).1]
      · rw [if_neg h2]
        by_cases h3 : i % 16 < j
        · rw [if_pos h3, if_pos (by omega)]
        · rw [if_neg h3]
          by_cases h4 : i % 16 = j
          · rw [if_pos (by omega)]
            refine (hb_none.mpr fun y hy e => ?_).symm
            have := h32 y hy
            omega
          · rw [if_neg (by omega)]
  rw [hT]
  refine ⟨_, rfl, ext_trans he3 (oc_ext_up hN3 _ _ rfl), ⟨oc_up_ne hO3 haa _, oc_up hN3 _, ?_, haa⟩, fun b fs h => oc_up_ne (hM3 b fs h) (oc_ne (hM3 b fs h) hN3 (by simp)) _⟩
  refine EnX_congr (EnX_same L none (fun y hy c hc => by
      obtain ⟨fs, hy1⟩ := EnX_oc hE3 hy
      exact oc_up_ne hc (oc_ne hy1 hN3 (by simp)) _) hE3) fun A' y C' e => ?_
  by_cases h1 : y.2.1 = xh.2.1
  · rw [if_pos h1]
    unfold nxj
    rw [if_pos (by omega), Nat.mod_eq_of_lt (h32 y (by rw [e]; simp)), (hb_key hnd e h32).2]
  · rw [if_neg h1]
    by_cases h2 : y.2.1 = xl.2.1
    · rw [if_pos h2]
      unfold nxj
      rw [if_pos (by omega), Nat.mod_eq_of_lt (h32 y (by rw [e]; simp)), (hb_key hnd e h32).2]
    · rw [if_neg h2]
      have := h32 y (by rw [e]; simp)
      exact rs_congr e (by omega)
set_option maxHeartbeats 4000000 in
theorem rs_step {κ : gK} {B : Nat → Nat} {F : Nat} {σ : gS} {ω : Nat → Nat} {t m n j a a' : Nat} {L : List mE} (hF : 8 ≤ F) (hI : rsI κ B σ ω t n a a' j L) (hnd : (L.map (fun x => x.2.1)).Nodup) (hn : n = 16 ∨ n = 32) (hj : j < n) (k : Option Nat → Option Nat → Int32 → Int32 → Option Nat → Int32 → gS → Option ((Option Nat) × gS)) :
    ∃ σ', f_J1_resize_151b κ F k (some m) (some a) (Int32.ofNat n) (Int32.ofNat (2 * n)) (some a') (Int32.ofNat j) σ = k (some m) (some a) (Int32.ofNat n) (Int32.ofNat (2 * n)) (some a') (Int32.ofNat (j + 1)) σ' ∧ ext (fun x => x = t) 0 0 σ ω σ' ω ∧ rsI κ B σ' ω t n a a' (j + 1) L ∧ (∀ b fs, oc κ σ ω t b (.inr (10, fs)) → oc κ σ' ω t b (.inr (10, fs))) := by
  obtain ⟨hO, hN, hE, haa⟩ := hI
  have hj1 : Int32.ofNat j + (1 : Int32) = Int32.ofNat (j + 1) := i3_add j 1
  have hle : ¬ (Int32.ofNat n ≤ Int32.ofNat j) := by rw [i3_le (by omega) (by omega)]; omega
  have hOj : rsO n j L j = hb n j L := by simp [rsO]
  rw [f_J1_resize_151b, if_neg hle, gaR_u, hO.1, gar9_s (by decide) hj (by omega), gB1_s, hOj]
  cases hh : hb n j L with
  | none =>
    refine ⟨σ, by rw [if_pos rfl, f_J1_resize_347, hj1], ext_refl _ _ _, ⟨?_, ?_, ?_, haa⟩, fun _ _ h => h⟩
    · have : rsO n (j + 1) L = rsO n j L := by
        rw [← rsO_up]
        funext i
        unfold va_up
        by_cases h : i = j
        · rw [if_pos h, h, hOj, hh]
        · rw [if_neg h]
      rw [this]; exact hO
    · have : rsN n (j + 1) L = rsN n j L := by
        funext i
        unfold rsN
        by_cases h2 : i % n < j
        · rw [if_pos h2, if_pos (by omega)]
        · rw [if_neg h2]
          by_cases h3 : i % n = j
          · rw [if_pos (by omega), hb2_none hh h3]
          · rw [if_neg (by omega)]
      rw [this]; exact hN
    · exact EnX_congr hE fun A x C e => rs_congr e (hb_none.mp hh x (by rw [e]; simp))
  | some e =>
    obtain ⟨A, x, C, hL, rfl, hxj, hA⟩ := hb_mem hh
    have hx := (EnX_iff _ _).mp hE A x C hL
    have hw1 := oc_sR hO (by decide) hj (by omega) (v := none) trivial
    rw [if_neg (by simp), hw1, gB1_s, rsO_up]
    have hxa : x.1 ≠ a := oc_ne hx.1 hO (by simp [enX])
    have haa' : a' ≠ a := fun e => haa e.symm
    have hO1 := oc_up hO (.inl (7, n, .inr (.inr (.inr (.inr (rsO n (j + 1) L))))))
    have hN1 := oc_up_ne hN haa' (.inl (7, n, .inr (.inr (.inr (.inr (rsO n (j + 1) L))))))
    have hx1 := oc_up_ne hx.1 hxa (.inl (7, n, .inr (.inr (.inr (.inr (rsO n (j + 1) L))))))
    have hE1 : EnX κ B (gup σ a (.inl (7, n, .inr (.inr (.inr (.inr (rsO n (j + 1) L))))))) ω t (nxj n j) none L := EnX_same L none (fun y hy c hc => by
      obtain ⟨fs, hy1⟩ := EnX_oc hE hy
      exact oc_up_ne hc (oc_ne hy1 hO (by simp)) _) hE
    have he1 : ext (fun x => x = t) 0 0 σ ω (gup σ a (.inl (7, n, .inr (.inr (.inr (.inr (rsO n (j + 1) L))))))) ω := oc_ext_up hO _ _ rfl
    have hM1 : ∀ b fs, oc κ σ ω t b (.inr (10, fs)) → oc κ (gup σ a (.inl (7, n, .inr (.inr (.inr (.inr (rsO n (j + 1) L))))))) ω t b (.inr (10, fs)) := fun b fs h => oc_up_ne h (oc_ne h hO (by simp)) _
    generalize (gup σ a (.inl (7, n, .inr (.inr (.inr (.inr (rsO n (j + 1) L))))))) = σ1 at hO1 hN1 hx1 hE1 he1 hM1
    have hxx : nxj n j x C = hb n j C := by
      unfold nxj
      rw [hxj, if_neg (Nat.lt_irrefl _)]
    rw [en_n hx1.1, gB1_s, hxx]
    cases hC : hb n j C with
    | none =>
      have hi : x.2.1 % (2 * n) < 2 * n := Nat.mod_lt _ (by omega)
      have hw2 := oc_sR hN1 (by decide) hi (by omega) (v := some x.1) (gok7 hx1.1)
      rw [if_pos rfl, en_h hx1.1, gB1_s, mask2 n _ hx.2 hn, hw2, gB1_s, f_J1_resize_347, hj1, rsN_1 hL hxj hA hC]
      refine ⟨_, rfl, ?_, ⟨oc_up_ne hO1 haa _, oc_up hN1 _, ?_, haa⟩, fun b fs h => oc_up_ne (hM1 b fs h) (oc_ne (hM1 b fs h) hN1 (by simp)) _⟩
      · exact (ext_trans he1 (oc_ext_up hN1 _ _ rfl))
      · refine EnX_congr (EnX_same L none (fun y hy c hc => by
          obtain ⟨fs, hy1⟩ := EnX_oc hE1 hy
          exact oc_up_ne hc (oc_ne hy1 hN1 (by simp)) _) hE1) fun A' y C' e => ?_
        by_cases hy : y.2.1 % n = j
        · by_cases hyx : y.2.1 = x.2.1
          · obtain ⟨rfl, rfl, rfl⟩ := key_split hnd e hL hyx
            rw [hxx, hC]
            unfold nxj
            rw [if_pos (by omega), hb2_none hC (by rw [Nat.mod_mul_left_mod]; exact hxj)]
          · exfalso
            have : y ∈ A ∨ y ∈ C := by
              have : y ∈ L := by rw [e]; simp
              rw [hL] at this
              simp only [List.mem_append, List.mem_cons] at this
              rcases this with h | h | h
              · exact Or.inl h
              · exact absurd (by rw [h]) hyx
              · exact Or.inr h
            rcases this with h | h
            · exact hb_none.mp hA y h hy
            · exact hb_none.mp hC y h hy
        · exact rs_congr e hy
    | some e2 =>
      obtain ⟨A2, x2, C2, hC2, rfl, hx2j, hA2⟩ := hb_mem hC
      have hL2 : L = (A ++ x :: A2) ++ x2 :: C2 := by rw [hL, hC2]; simp
      have hx2 := (EnX_iff _ _).mp hE1 _ x2 C2 hL2
      have hne : x2.2.1 ≠ x.2.1 := nodup_key hnd hL (Or.inr (by rw [hC2]; simp))
      have hr := hx.2
      have hr2 := hx2.2
      have hn16 : n = 16 := by
        rcases hn with rfl | rfl
        · rfl
        · exfalso; omega
      subst hn16
      have hC0 : hb 16 j C2 = none := by
        refine hb_none.mpr fun y hy e => ?_
        have hy2 : y ∈ L := by rw [hL2]; simp [hy]
        obtain ⟨Ay, Cy, ey⟩ := List.append_of_mem hy2
        have h1 := ((EnX_iff _ _).mp hE1 Ay y Cy ey).2
        have h2 := nodup_key hnd hL2 (Or.inr hy)
        have h3 := nodup_key hnd hL (y := y) (Or.inr (by rw [hC2]; simp [hy]))
        omega
      have hxx2 : nxj 16 j x2 C2 = none := by
        unfold nxj
        rw [hx2j, if_neg (Nat.lt_irrefl _), hC0]
      obtain ⟨f, rfl⟩ : ∃ f, F = f + 2 := ⟨F - 2, by omega⟩
      rw [if_neg (by simp), en_io hx1.1, gB1_s, if_pos rfl, f_J1_resize_235, f_J1_resize_235b, en_n hx1.1, gB1_s, en_h hx1.1, gB1_s, hxx, hC]
      have hr := hx.2
      have hr2 := hx2.2
      by_cases hlo : x.2.1 < 16
      · have ep := rs_end (F := f + 2) (m := m) hO1 hN1 hE1 haa hnd hj hL hL2 (by omega) (by omega) k (f_J1_resize_235 κ (f + 2) k f)
        obtain ⟨σ', q1, q2, q3, q4⟩ := ep
        refine ⟨σ', ?_, ext_trans he1 q2, q3, fun b fs h => q4 b fs (hM1 b fs h)⟩
        rw [if_pos ((bit16 _ hr).mpr hlo), if_pos rfl, f_J1_resize_271, f_J1_resize_301, if_neg (by simp), f_J1_resize_235, f_J1_resize_235b, en_n hx2.1.1, gB1_s, en_h hx2.1.1, gB1_s, if_neg (fun e => by have := (bit16 _ hr2).mp e; omega), if_pos rfl, f_J1_resize_297, hxx2]
        exact q1
      · have ep := rs_end (F := f + 2) (m := m) hO1 hN1 hE1 haa hnd hj hL2 hL (by omega) (by omega) k (f_J1_resize_235 κ (f + 2) k f)
        obtain ⟨σ', q1, q2, q3, q4⟩ := ep
        refine ⟨σ', ?_, ext_trans he1 q2, q3, fun b fs h => q4 b fs (hM1 b fs h)⟩
        rw [if_neg (fun e => hlo ((bit16 _ hr).mp e)), if_pos rfl, f_J1_resize_297, f_J1_resize_301, if_neg (by simp), f_J1_resize_235, f_J1_resize_235b, en_n hx2.1.1, gB1_s, en_h hx2.1.1, gB1_s, if_pos ((bit16 _ hr2).mpr (by omega)), if_pos rfl, f_J1_resize_271, hxx2]
        exact q1
theorem rs_loop {κ : gK} {B : Nat → Nat} {F : Nat} {ω : Nat → Nat} {t m n a a' : Nat} {L : List mE} (hF : 8 ≤ F) (hnd : (L.map (fun x => x.2.1)).Nodup) (hn : n = 16 ∨ n = 32) : ∀ (d : Nat) (fuel j : Nat) (σ : gS), j + d = n → d < fuel → rsI κ B σ ω t n a a' j L →
    ∃ σ', f_J1_resize_151 κ F fuel (some m) (some a) (Int32.ofNat n) (Int32.ofNat (2 * n)) (some a') (Int32.ofNat j) σ = some (some a', σ') ∧ ext (fun x => x = t) 0 0 σ ω σ' ω ∧ rsI κ B σ' ω t n a a' n L ∧ (∀ b fs, oc κ σ ω t b (.inr (10, fs)) → oc κ σ' ω t b (.inr (10, fs)))
  | 0, fuel, j, σ, hj, hf, hI => by
    obtain ⟨f, rfl⟩ : ∃ f, fuel = f + 1 := ⟨fuel - 1, by omega⟩
    have hj : j = n := by omega
    subst hj
    refine ⟨σ, ?_, ext_refl _ _ _, hI, fun _ _ h => h⟩
    rw [f_J1_resize_151, f_J1_resize_151b, if_pos (Int32.le_refl _), f_J1_resize_353]
  | d + 1, fuel, j, σ, hj, hf, hI => by
    obtain ⟨f, rfl⟩ : ∃ f, fuel = f + 1 := ⟨fuel - 1, by omega⟩
    obtain ⟨σ1, q1, q2, q3, q4⟩ := rs_step (m := m) hF hI hnd hn (by omega) (f_J1_resize_151 κ F f)
    obtain ⟨σ2, r1, r2, r3, r4⟩ := rs_loop hF hnd hn d f (j + 1) σ1 (by omega) (by omega) q3
    exact ⟨σ2, by rw [f_J1_resize_151, q1, r1], ext_trans q2 r2, r3, fun b fs h => r4 b fs (q4 b fs h)⟩
theorem fp12 : FP.f2i (FP.fmul (FP.i2f (16 : Int32)) (1061158912 : UInt32)) = 12 ∧ gfn (FP.fmul (FP.i2f (16 : Int32)) (1061158912 : UInt32)) = some () ∧ ¬ (0 ≤ (Op.cmpValue (FP.fcmp (FP.fmul (FP.i2f (16 : Int32)) (1061158912 : UInt32)) (1317011456 : UInt32)) .g)) := by
  refine ⟨by decide +kernel, ?_, by decide +kernel⟩
  unfold gfn
  rw [if_pos (by unfold vf_n32; decide +kernel)]
theorem gna_s (σ : gS) {t k : Nat} (h : k ≤ 60000000) : gna σ t (Int32.ofNat k) = some (some σ.2.1, gpush σ (.inl (t, gz t k)) k) := by
  have h1 := i3_ok (k := k) (by omega)
  simp only [gna, h1.2]
  rw [if_pos ⟨h1.1, h⟩]
set_option maxHeartbeats 4000000 in
/-- resize of a map that has a table -/
theorem p_resize {κ : gK} {B : Nat → Nat} {F : Nat} {σ : gS} {ω : Nat → Nat} {t m n a : Nat} {L : List mE} {ks : Option Nat} {z md : Int32} {h l : Option Nat} (hF : 64 ≤ F) (hm : oc κ σ ω t m (mpC (some a) ks z md (Int32.ofNat (n * 3 / 4)) h l)) (hT : oc κ σ ω t a (.inl (7, n, .inr (.inr (.inr (.inr (fun j => hb n j L))))))) (hE : Ents κ B σ ω t n none L) (hnd : (L.map (fun x => x.2.1)).Nodup) (hn : n = 16 ∨ n = 32) (hω : ω σ.2.1 = t) :
    ∃ σ', f_J1_resize κ F (some m) σ = some (some σ.2.1, σ') ∧ ext (fun x => x = t) 1 (2 * n) σ ω σ' ω ∧ oc κ σ' ω t m (mpC (some σ.2.1) ks z md (Int32.ofNat (2 * n * 3 / 4)) h l) ∧ oc κ σ' ω t σ.2.1 (.inl (7, 2 * n, .inr (.inr (.inr (.inr (fun j => hb (2 * n) j L)))))) ∧ Ents κ B σ' ω t (2 * n) none L := by
  have hm1 := hm.1
  simp only [mpC] at hm1
  have hbm := hm.2.2.2
  have hme : m ≠ σ.2.1 := by have := hm.2.1; omega
  have hae : a ≠ σ.2.1 := by have := hT.2.1; omega
  have ham : a ≠ m := oc_ne hT hm (by simp [mpC])
  have hc1 : ¬ (Int32.ofNat n ≤ 0) := by rcases hn with rfl | rfl <;> decide
  have hc2 : Int32.ofNat n < (1073741824 : Int32) := by rcases hn with rfl | rfl <;> decide
  have hc3 : ¬ ((1073741824 : Int32) ≤ (Int32.ofNat n <<< ((1 : Int32) &&& 31))) := by rcases hn with rfl | rfl <;> decide
  have hc8 : ¬ ((1073741824 : Int32) ≤ Int32.ofNat (2 * n)) := by rcases hn with rfl | rfl <;> decide
  have hc4 : ¬ (Int32.ofNat n < (16 : Int32)) := by rcases hn with rfl | rfl <;> decide
  have hc5 : (Int32.ofNat n <<< ((1 : Int32) &&& 31)) = Int32.ofNat (2 * n) := by rcases hn with rfl | rfl <;> decide
  have hc6 : (Int32.ofNat (n * 3 / 4) <<< ((1 : Int32) &&& 31)) = Int32.ofNat (2 * n * 3 / 4) := by rcases hn with rfl | rfl <;> decide
  have hc7 : Int32.ofNat (2 * n * 3 / 4) ≠ 0 := by rcases hn with rfl | rfl <;> decide
  have hm2 := oc_up hm (mpC (some a) ks z md (Int32.ofNat (2 * n * 3 / 4)) h l)
  have g1 : gpf κ σ (some m) 10 4 (.int (Int32.ofNat (2 * n * 3 / 4))) = some (gup σ m (mpC (some a) ks z md (Int32.ofNat (2 * n * 3 / 4)) h l)) := oc_pf hm (by simp) _
  have hT2 := oc_up_ne hT ham (mpC (some a) ks z md (Int32.ofNat (2 * n * 3 / 4)) h l)
  have hE2 := EnX_same (σ1 := gup σ m (mpC (some a) ks z md (Int32.ofNat (2 * n * 3 / 4)) h l)) (ω1 := ω) L none (fun y hy c hc => by
      obtain ⟨fs, hy1⟩ := EnX_oc hE hy
      exact oc_up_ne hc (oc_ne hy1 hm (by simp [mpC])) _) hE
  have he2 := oc_ext_up hm (mpC (some a) ks z md (Int32.ofNat (2 * n * 3 / 4)) h l) (fun x => x = t) rfl
  have hz : (gup σ m (mpC (some a) ks z md (Int32.ofNat (2 * n * 3 / 4)) h l)).2 = σ.2 := rfl
  rw [f_J1_resize, f_J1_resize_0]
  simp only [gfR_u, hm1, gcf_s, List.getElem?_cons_zero, gvR_rf, gB1_s, reduceCtorEq, if_false, gal_u, hT.1, gal9_s 7 n _ (by decide), f_J1_resize_15, gfI_u, List.getElem?_cons_succ, gvI_int, hc1, hc2, hc3, hc8, hc4, if_true, f_J1_resize_85, hc5, hc6, hc7, f_J1_resize_125, g1]
  generalize gup σ m (mpC (some a) ks z md (Int32.ofNat (2 * n * 3 / 4)) h l) = σ2 at hm2 hT2 hE2 he2 hz
  rw [gna_s σ2 (show 2 * n ≤ 60000000 by omega), gB2_s]
  have hz1 : σ2.2.1 = σ.2.1 := by rw [hz]
  have hm3 := oc_pu hm2 (.inl (7, gz 7 (2 * n))) (2 * n)
  have hT3 := oc_pu hT2 (.inl (7, gz 7 (2 * n))) (2 * n)
  have hN3 := oc_push (κ := κ) (σ := σ2) (ω := ω) (t := t) (by have := hm2.2.1; omega) (by rw [hz1]; exact hω) (.inl (7, gz 7 (2 * n))) (2 * n)
  have hE3 := EnX_same (σ1 := gpush σ2 (.inl (7, gz 7 (2 * n))) (2 * n)) (ω1 := ω) L none (fun y hy c hc => oc_pu hc _ _) hE2
  have he3 := ext_trans he2 (ext_push (fun x => x = t) σ2 ω (.inl (7, gz 7 (2 * n))) (2 * n))
  rw [hz1] at hN3 ⊢
  generalize gpush σ2 (.inl (7, gz 7 (2 * n))) (2 * n) = σ3 at hm3 hT3 hN3 hE3 he3
  have g4 : gpf κ σ3 (some m) 10 0 (va_rf (some σ.2.1)) = some (gup σ3 m (mpC (some σ.2.1) ks z md (Int32.ofNat (2 * n * 3 / 4)) h l)) := oc_pf hm3 (by simp) _
  rw [g4, gB1_s]
  have hm4 := oc_up hm3 (mpC (some σ.2.1) ks z md (Int32.ofNat (2 * n * 3 / 4)) h l)
  have hT4 := oc_up_ne hT3 ham (mpC (some σ.2.1) ks z md (Int32.ofNat (2 * n * 3 / 4)) h l)
  have hN4 := oc_up_ne hN3 (fun e => hme e.symm) (mpC (some σ.2.1) ks z md (Int32.ofNat (2 * n * 3 / 4)) h l)
  have hE4 := EnX_same (σ1 := gup σ3 m (mpC (some σ.2.1) ks z md (Int32.ofNat (2 * n * 3 / 4)) h l)) (ω1 := ω) L none (fun y hy c hc => by
      obtain ⟨fs, hy1⟩ := EnX_oc hE3 hy
      exact oc_up_ne hc (oc_ne hy1 hm3 (by simp [mpC])) _) hE3
  have he4 := ext_trans he3 (oc_ext_up hm3 (mpC (some σ.2.1) ks z md (Int32.ofNat (2 * n * 3 / 4)) h l) (fun x => x = t) rfl)
  generalize gup σ3 m (mpC (some σ.2.1) ks z md (Int32.ofNat (2 * n * 3 / 4)) h l) = σ4 at hm4 hT4 hN4 hE4 he4
  have hI : rsI κ B σ4 ω t n a σ.2.1 0 L := by
    refine ⟨?_, ?_, EnX_congr hE4 fun A x C e => ?_, hae⟩
    · have : rsO n 0 L = fun j => hb n j L := by funext i; simp [rsO]
      rw [this]; exact hT4
    · have : rsN n 0 L = fun _ => none := by funext i; simp [rsN]
      rw [this]; exact hN4
    · simp [nxj]
  obtain ⟨σ5, q1, q2, q3, q4⟩ := rs_loop (F := F) (m := m) (by omega) hnd hn n F 0 σ4 (by omega) (by omega) hI
  obtain ⟨r1, r2, r3, -⟩ := q3
  refine ⟨σ5, q1, ext_mono (ext_trans he4 q2) (fun _ h => h) (by omega) (by omega), q4 m _ hm4, ?_, EnX_congr r3 fun A x C e => ?_⟩
  · have : rsN n n L = fun j => hb (2 * n) j L := by
      funext i
      unfold rsN
      rw [if_pos (Nat.mod_lt _ (by omega))]
    rw [this] at r2
    exact r2
  · unfold nxj
    rw [if_pos (Nat.mod_lt _ (by omega))]
