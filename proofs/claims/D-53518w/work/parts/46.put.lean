theorem mp_t {σ : gS} {m : Nat} {tb ks : Option Nat} {z md th : Int32} {h l : Option Nat} (hm : σ.1 m = some (mpC tb ks z md th h l)) : gfR σ (some m) 10 0 = some tb := by simp only [gfR_u, hm, mpC, gcf_s, List.getElem?_cons_zero, gvR_rf]
theorem mp_z {σ : gS} {m : Nat} {tb ks : Option Nat} {z md th : Int32} {h l : Option Nat} (hm : σ.1 m = some (mpC tb ks z md th h l)) : gfI σ (some m) 10 2 = some z := by simp only [gfI_u, hm, mpC, gcf_s, List.getElem?_cons_zero, List.getElem?_cons_succ, gvI_int]
theorem mp_md {σ : gS} {m : Nat} {tb ks : Option Nat} {z md th : Int32} {h l : Option Nat} (hm : σ.1 m = some (mpC tb ks z md th h l)) : gfI σ (some m) 10 3 = some md := by simp only [gfI_u, hm, mpC, gcf_s, List.getElem?_cons_zero, List.getElem?_cons_succ, gvI_int]
theorem mp_th {σ : gS} {m : Nat} {tb ks : Option Nat} {z md th : Int32} {h l : Option Nat} (hm : σ.1 m = some (mpC tb ks z md th h l)) : gfI σ (some m) 10 4 = some th := by simp only [gfI_u, hm, mpC, gcf_s, List.getElem?_cons_zero, List.getElem?_cons_succ, gvI_int]
theorem mp_ks {σ : gS} {m : Nat} {tb ks : Option Nat} {z md th : Int32} {h l : Option Nat} (hm : σ.1 m = some (mpC tb ks z md th h l)) : gfR σ (some m) 10 6 = some ks := by simp only [gfR_u, hm, mpC, gcf_s, List.getElem?_cons_zero, List.getElem?_cons_succ, gvR_rf]
theorem mp_h {σ : gS} {m : Nat} {tb ks : Option Nat} {z md th : Int32} {h l : Option Nat} (hm : σ.1 m = some (mpC tb ks z md th h l)) : gfR σ (some m) 10 8 = some h := by simp only [gfR_u, hm, mpC, gcf_s, List.getElem?_cons_zero, List.getElem?_cons_succ, gvR_rf]
theorem mp_l {σ : gS} {m : Nat} {tb ks : Option Nat} {z md th : Int32} {h l : Option Nat} (hm : σ.1 m = some (mpC tb ks z md th h l)) : gfR σ (some m) 10 9 = some l := by simp only [gfR_u, hm, mpC, gcf_s, List.getElem?_cons_zero, List.getElem?_cons_succ, gvR_rf]
theorem mp_ck {σ : gS} {m : Nat} {tb ks : Option Nat} {z md th : Int32} {h l : Option Nat} (hm : σ.1 m = some (mpC tb ks z md th h l)) : gck σ (some m) 10 = some () := by simp only [gck_u, hm, mpC, gcc9_s]
set_option maxHeartbeats 4000000 in
/-- resize of a map that has no table yet -/
theorem p_resize0 {κ : gK} {F : Nat} {σ : gS} {ω : Nat → Nat} {t m : Nat} {ks : Option Nat} {z md th : Int32} {h l : Option Nat} (hm : oc κ σ ω t m (mpC none ks z md th h l)) (hth : th = 0 ∨ th = 16) (hω : ω σ.2.1 = t) :
    ∃ σ', f_J1_resize κ F (some m) σ = some (some σ.2.1, σ') ∧ ext (fun x => x = t) 1 16 σ ω σ' ω ∧ oc κ σ' ω t m (mpC (some σ.2.1) ks z md (Int32.ofNat (16 * 3 / 4)) h l) ∧ oc κ σ' ω t σ.2.1 (.inl (7, 16, .inr (.inr (.inr (.inr (fun j => hb 16 j [])))))) := by
  have hm1 := hm.1
  simp only [mpC] at hm1
  have hme : m ≠ σ.2.1 := by have := hm.2.1; omega
  have hm2 := oc_up hm (mpC none ks z md (Int32.ofNat (16 * 3 / 4)) h l)
  have g1 : gpf κ σ (some m) 10 4 (.int (12 : Int32)) = some (gup σ m (mpC none ks z md (Int32.ofNat (16 * 3 / 4)) h l)) := oc_pf hm (by simp) _
  have he2 := oc_ext_up hm (mpC none ks z md (Int32.ofNat (16 * 3 / 4)) h l) (fun x => x = t) rfl
  have hz : (gup σ m (mpC none ks z md (Int32.ofNat (16 * 3 / 4)) h l)).2 = σ.2 := rfl
  have hrun : f_J1_resize κ F (some m) σ = f_J1_resize_125 κ F (some m) none 0 (16 : Int32) (12 : Int32) σ := by
    rw [f_J1_resize, f_J1_resize_0]
    rcases hth with rfl | rfl
    · simp only [gfR_u, hm1, gcf_s, List.getElem?_cons_zero, gvR_rf, gB1_s, if_true, f_J1_resize_15, gfI_u, List.getElem?_cons_succ, gvI_int, Int32.le_refl, f_J1_resize_85, show ((12 : Int32) = 0) = False from by decide, if_false]
    · simp only [gfR_u, hm1, gcf_s, List.getElem?_cons_zero, gvR_rf, gB1_s, if_true, f_J1_resize_15, gfI_u, List.getElem?_cons_succ, gvI_int, Int32.le_refl, show ((16 : Int32) ≤ 0) = False from by decide, if_false, f_J1_resize_85, gfF_u, gvF_float, fp12.1, fp12.2.1, fp12.2.2, show ((1073741824 : Int32) ≤ 16) = False from by decide, f_J1_resize_123]
  rw [hrun, f_J1_resize_125, g1, gB1_s]
  generalize gup σ m (mpC none ks z md (Int32.ofNat (16 * 3 / 4)) h l) = σ2 at hm2 he2 hz
  have hz1 : σ2.2.1 = σ.2.1 := by rw [hz]
  rw [show (16 : Int32) = Int32.ofNat 16 from rfl, gna_s σ2 (show 16 ≤ 60000000 by decide), gB2_s]
  have hm3 := oc_pu hm2 (.inl (7, gz 7 16)) 16
  have hN3 := oc_push (κ := κ) (σ := σ2) (ω := ω) (t := t) (by have := hm2.2.1; have := hm2.2.2.2; omega) (by rw [hz1]; exact hω) (.inl (7, gz 7 16)) 16
  have he3 := ext_trans he2 (ext_push (fun x => x = t) σ2 ω (.inl (7, gz 7 16)) 16)
  rw [hz1] at hN3 ⊢
  generalize gpush σ2 (.inl (7, gz 7 16)) 16 = σ3 at hm3 hN3 he3
  have g4 : gpf κ σ3 (some m) 10 0 (va_rf (some σ.2.1)) = some (gup σ3 m (mpC (some σ.2.1) ks z md (Int32.ofNat (16 * 3 / 4)) h l)) := oc_pf hm3 (by simp) _
  rw [g4, gB1_s, if_pos rfl, f_J1_resize_353]
  refine ⟨_, rfl, ext_trans he3 (oc_ext_up hm3 _ _ rfl), oc_up hm3 _, oc_up_ne hN3 (fun e => hme e.symm) _⟩
/-- behind an insertion -/
theorem p_292 {κ : gK} {F : Nat} {σ : gS} {m : Nat} {fs : List Value} {h : Option Nat} (hm : σ.1 m = some (.inr (10, fs))) (hh : fs[8]? = some (va_rf h)) : f_J1_putVal_292 κ F (some m) 1 σ = some (none, σ) := by
  cases h with
  | none => simp only [f_J1_putVal_292, gck_u, hm, gcc9_s, gB1_s, f_J2_afterNodeInsertion, f_J2_afterNodeInsertion_0, f_J2_afterNodeInsertion_39, gfR_u, gcf_s, hh, gvR_rf, show ((1 : Int32) = 0) = False from by decide, if_false, if_true, gB2_s]
  | some x => simp only [f_J1_putVal_292, gck_u, hm, gcc9_s, gB1_s, f_J2_afterNodeInsertion, f_J2_afterNodeInsertion_0, f_J2_afterNodeInsertion_39, gfR_u, gcf_s, hh, gvR_rf, show ((1 : Int32) = 0) = False from by decide, if_false, reduceCtorEq, f_J2_removeEldestEntry, f_J2_removeEldestEntry_0, gok_z0, if_true, gB2_s]
set_option maxHeartbeats 4000000 in
/-- the count, and a larger table if it is needed -/
theorem p_259 {κ : gK} {B : Nat → Nat} {F : Nat} {σ : gS} {ω : Nat → Nat} {t m n a : Nat} {L : List mE} {ks : Option Nat} {md : Int32} (hF : 64 ≤ F) (hm : oc κ σ ω t m (mpC (some a) ks (Int32.ofNat (L.length - 1)) md (Int32.ofNat (n * 3 / 4)) (hd L) (lst L))) (hT : oc κ σ ω t a (.inl (7, n, .inr (.inr (.inr (.inr (fun j => hb n j L))))))) (hK : mpK κ σ ω m ks) (ht0 : t ≠ 0) (hE : Ents κ B σ ω t n none L) (hnd : (L.map (fun x => x.2.1)).Nodup) (hn : n = 16 ∨ n = 32 ∨ n = 64) (hω : ∀ b, σ.2.1 ≤ b → ω b = t) (hl1 : 1 ≤ L.length) (hl32 : L.length ≤ 32) (hle : L.length ≤ n * 3 / 4 + 1) :
    ∃ σ', f_J1_putVal_259 κ F (some m) 1 σ = some (none, σ') ∧ ext (fun x => x = t) 1 64 σ ω σ' ω ∧ LM κ B σ' ω t m L := by
  have hsz : Int32.ofNat (L.length - 1) + (1 : Int32) = Int32.ofNat L.length := by rw [show (1 : Int32) = Int32.ofNat 1 from rfl, i3_add, Nat.sub_add_cancel hl1]
  have g1 : gpf κ σ (some m) 10 3 (.int (md + 1)) = some (gup σ m (mpC (some a) ks (Int32.ofNat (L.length - 1)) (md + 1) (Int32.ofNat (n * 3 / 4)) (hd L) (lst L))) := oc_pf hm (by simp) _
  have hm2 := oc_up hm (mpC (some a) ks (Int32.ofNat (L.length - 1)) (md + 1) (Int32.ofNat (n * 3 / 4)) (hd L) (lst L))
  have g2 : gpf κ (gup σ m (mpC (some a) ks (Int32.ofNat (L.length - 1)) (md + 1) (Int32.ofNat (n * 3 / 4)) (hd L) (lst L))) (some m) 10 2 (.int (Int32.ofNat L.length)) = some (gup (gup σ m (mpC (some a) ks (Int32.ofNat (L.length - 1)) (md + 1) (Int32.ofNat (n * 3 / 4)) (hd L) (lst L))) m (mpC (some a) ks (Int32.ofNat L.length) (md + 1) (Int32.ofNat (n * 3 / 4)) (hd L) (lst L))) := oc_pf hm2 (by simp) _
  have hm3 := oc_up hm2 (mpC (some a) ks (Int32.ofNat L.length) (md + 1) (Int32.ofNat (n * 3 / 4)) (hd L) (lst L))
  rw [f_J1_putVal_259, mp_md hm.1, gB1_s, g1, gB1_s, mp_z hm2.1, gB1_s, hsz, g2, gB1_s, mp_th hm3.1, gB1_s]
  have hm31 := hm3.1
  have ham : a ≠ m := oc_ne hT hm (by simp [mpC])
  have hT3 := oc_up_ne (oc_up_ne hT ham (mpC (some a) ks (Int32.ofNat (L.length - 1)) (md + 1) (Int32.ofNat (n * 3 / 4)) (hd L) (lst L))) ham (mpC (some a) ks (Int32.ofNat L.length) (md + 1) (Int32.ofNat (n * 3 / 4)) (hd L) (lst L))
  have hE3 := EnX_same (σ1 := gup (gup σ m (mpC (some a) ks (Int32.ofNat (L.length - 1)) (md + 1) (Int32.ofNat (n * 3 / 4)) (hd L) (lst L))) m (mpC (some a) ks (Int32.ofNat L.length) (md + 1) (Int32.ofNat (n * 3 / 4)) (hd L) (lst L))) (ω1 := ω) L none (fun y hy c hc => by
      obtain ⟨fs, hy1⟩ := EnX_oc hE hy
      exact oc_up_ne (oc_up_ne hc (oc_ne hy1 hm (by simp [mpC])) _) (oc_ne hy1 hm (by simp [mpC])) _) hE
  have he3 := ext_trans (oc_ext_up hm (mpC (some a) ks (Int32.ofNat (L.length - 1)) (md + 1) (Int32.ofNat (n * 3 / 4)) (hd L) (lst L)) (fun x => x = t) rfl) (oc_ext_up hm2 (mpC (some a) ks (Int32.ofNat L.length) (md + 1) (Int32.ofNat (n * 3 / 4)) (hd L) (lst L)) (fun x => x = t) rfl)
  have hz : (gup (gup σ m (mpC (some a) ks (Int32.ofNat (L.length - 1)) (md + 1) (Int32.ofNat (n * 3 / 4)) (hd L) (lst L))) m (mpC (some a) ks (Int32.ofNat L.length) (md + 1) (Int32.ofNat (n * 3 / 4)) (hd L) (lst L))).2 = σ.2 := rfl
  have hq3 := mp_ck hm3.1
  generalize gup (gup σ m (mpC (some a) ks (Int32.ofNat (L.length - 1)) (md + 1) (Int32.ofNat (n * 3 / 4)) (hd L) (lst L))) m (mpC (some a) ks (Int32.ofNat L.length) (md + 1) (Int32.ofNat (n * 3 / 4)) (hd L) (lst L)) = σ3 at hm3 hm31 hT3 hE3 he3 hz hq3
  have hK3 : ∀ σ', ext (fun x => x = t) 0 0 σ ω σ' ω → mpK κ σ' ω m ks := fun σ' he => by
    cases ks with
    | none => trivial
    | some b => exact oc_mv hK he (fun e => ht0 e.symm)
  have hle9 : (Int32.ofNat L.length ≤ Int32.ofNat (n * 3 / 4)) ↔ L.length ≤ n * 3 / 4 := i3_le (by omega) (by omega)
  by_cases hc : L.length ≤ n * 3 / 4
  · rw [if_pos (hle9.mpr hc), p_292 hm31 rfl]
    exact ⟨σ3, rfl, ext_mono he3 (fun _ h => h) (by omega) (by omega), some a, ks, md + 1, Int32.ofNat (n * 3 / 4), n, hm3, hT3, hK3 _ he3, hE3, hnd, hn, fun _ => ⟨rfl, hc⟩, fun e => by cases e⟩
  · have hn2 : n = 16 ∨ n = 32 := by rcases hn with h | h | h <;> omega
    obtain ⟨σ4, r1, r2, r3, r4, r5⟩ := p_resize hF hm3 hT3 hE3 hnd hn2 (hω _ (by rw [hz]; exact Nat.le_refl _))
    rw [if_neg (fun e => hc (hle9.mp e)), hq3, gB1_s, r1, gB2_s, p_292 r3.1 rfl]
    refine ⟨σ4, rfl, ext_mono (ext_trans he3 r2) (fun _ h => h) (by omega) (by omega), some σ3.2.1, ks, md + 1, Int32.ofNat (2 * n * 3 / 4), 2 * n, r3, r4, ?_, r5, hnd, by omega, fun _ => ⟨rfl, by omega⟩, fun e => by cases e⟩
    have := hK3 _ he3
    cases ks with
    | none => trivial
    | some b => exact oc_mv this r2 (fun e => ht0 e.symm)
