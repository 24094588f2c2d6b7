/-! new maps and sets; going through a set -/
theorem p_nlz (κ : gK) (F : Nat) (σ : gS) : f_J17_numberOfLeadingZeros κ F ((16 : Int32) - (1 : Int32)) σ = some (28, σ) := by
  simp only [f_J17_numberOfLeadingZeros, f_J17_numberOfLeadingZeros_0, f_J17_numberOfLeadingZeros_33, f_J17_numberOfLeadingZeros_48, f_J17_numberOfLeadingZeros_61, f_J17_numberOfLeadingZeros_73]
  rw [if_pos (by decide), if_pos (by decide), if_pos (by decide), if_pos (by decide), if_neg (by decide)]
  rfl
theorem p_tsf (κ : gK) (F : Nat) (σ : gS) : f_J1_tableSizeFor κ F (16 : Int32) σ = some (16, σ) := by
  rw [f_J1_tableSizeFor, f_J1_tableSizeFor_0, p_nlz, gB2_s, if_pos (by decide), if_pos (by decide)]
  rfl
theorem fpz : ¬ ((Op.cmpValue (FP.fcmp (1061158912 : UInt32) FP.fconst0) .g) ≤ 0) ∧ (Op.cmpValue (FP.fcmp (1061158912 : UInt32) (1061158912 : UInt32)) .l) = 0 := ⟨by decide +kernel, by decide +kernel⟩
/-- an empty map -/
theorem LM_nil {κ : gK} {B : Nat → Nat} {σ : gS} {ω : Nat → Nat} {t m : Nat} {th : Int32} (hm : oc κ σ ω t m (mpC none none 0 0 th none none)) (hth : th = 0 ∨ th = 16) : LM κ B σ ω t m [] :=
  ⟨none, none, 0, th, 16, hm, rfl, trivial, trivial, List.nodup_nil, Or.inl rfl, fun h => absurd rfl h, fun _ => hth⟩
/-- new LinkedHashMap() -/
theorem p_newMap {κ : gK} {F : Nat} {σ : gS} {ω : Nat → Nat} {t m : Nat} (hm : oc κ σ ω t m (.inr (10, g0_J2))) : ∃ σ', f_J2_init κ F (some m) σ = some ((), σ') ∧ ext (fun x => x = t) 0 0 σ ω σ' ω ∧ oc κ σ' ω t m (mpC none none 0 0 0 none none) := by
  have hm1 := hm.1
  have hb := hm.2.2.2
  refine ⟨_, (by simp only [f_J2_init, f_J2_init_0, f_J1_init, f_J1_init_0, f_J0_init, f_J0_init_0, gsm_s, gB1_s, gB2_s, gpf_u, hm1, g0_J2, gup_at, gpf9_s, hb, List.set_cons_zero, List.set_cons_succ, List.length_cons, List.length_nil, Nat.reduceAdd, Nat.reduceLT, gok_z0]; rfl), ?_, ?_⟩
  · refine ext_gup (fun _ => hm.2.2.1) (ext_gup (fun _ => hm.2.2.1) (ext_gup (fun _ => hm.2.2.1) (ext_refl _ _ _)))
  · exact ⟨gup_at _ _ _, hm.2.1, hm.2.2.1, hb⟩
/-- new LinkedHashSet() at s: its map is the next cell -/
theorem p_newSet {κ : gK} {F : Nat} {σ : gS} {ω : Nat → Nat} {t s : Nat} (hs : oc κ σ ω t s (.inr (12, g0_J28))) (hω : ω σ.2.1 = t) : ∃ σ', f_J28_init κ F (some s) σ = some ((), σ') ∧ ext (fun x => x = t) 1 12 σ ω σ' ω ∧ oc κ σ' ω t s (.inr (12, [.ref σ.2.1])) ∧ oc κ σ' ω t σ.2.1 (mpC none none 0 0 16 none none) := by
  have hs1 := hs.1
  have hb := hs.2.2.2
  have hse : s ≠ σ.2.1 := by have := hs.2.1; omega
  have hes : σ.2.1 ≠ s := fun e => hse e.symm
  have hbe : κ.1 ≤ σ.2.1 := by have := hs.2.1; omega
  refine ⟨_, (by simp only [f_J28_init, f_J28_init_0, f_J27_init, f_J27_init_0, f_J26_init, f_J26_init_0, f_J23_init, f_J23_init_0, f_J2_init_2, f_J2_init_2_0, f_J1_init_2, f_J1_init_2_0, f_J1_init_2_44, f_J0_init, f_J0_init_0, gsm_s, gB1_s, gB2_s, gnw, show ((0 : Int32) ≤ 16) = True from by decide, show ((16 : Int32) ≤ 1073741824) = True from by decide, if_true, fpz.1, if_false, f_J29_isNaN, f_J29_isNaN_0, f_J29_isNaN_11, fpz.2, gok_z0, p_tsf, gpf_u, gpush_at, gup_at, gpush_ne hse, gup_ne hse, gup_ne hes, hs1, g0_J2, g0_J28, gpf9_s, hb, hbe, List.set_cons_zero, List.set_cons_succ, List.length_cons, List.length_nil, Nat.reduceAdd, Nat.reduceLT]; rfl), ?_, ?_, ?_⟩
  · refine ext_gup (fun _ => hs.2.2.1) ?_
    repeat refine ext_gup (fun h => absurd h (Nat.lt_irrefl _)) ?_
    exact ext_push _ _ _ _ _
  · exact ⟨gup_at _ _ _, Nat.lt_succ_of_lt hs.2.1, hs.2.2.1, hb⟩
  · refine ⟨?_, Nat.lt_succ_self _, hω, hbe⟩
    simp only [gup_ne hes, gup_at]
    rfl
/-- an iterator at it over the map m: what it has still to give -/
def IT (κ : gK) (σ : gS) (ω : Nat → Nat) (ti it t m : Nat) (R : List mE) : Prop := ∃ (cur : Option Nat) (md : Int32) (fs : List Value), oc κ σ ω ti it (.inr (14, [va_rf (hd R), va_rf cur, .int md, .int 0, va_rf (some m)])) ∧ oc κ σ ω t m (.inr (10, fs)) ∧ fs[3]? = some (.int md)
theorem IT_mv {κ : gK} {T : Nat → Prop} {c n : Nat} {σ σ1 : gS} {ω ω1 : Nat → Nat} {ti it t m : Nat} {R : List mE} (h : IT κ σ ω ti it t m R) (e : ext T c n σ ω σ1 ω1) (h1 : ¬ T ti) (h2 : ¬ T t) : IT κ σ1 ω1 ti it t m R := by
  obtain ⟨cur, md, fs, a1, a2, a3⟩ := h
  exact ⟨cur, md, fs, oc_mv a1 e h1, oc_mv a2 e h2, a3⟩
theorem LM_mv {κ : gK} {B : Nat → Nat} {T : Nat → Prop} {c n : Nat} {σ σ1 : gS} {ω ω1 : Nat → Nat} {t m : Nat} {L : List mE} (h : LM κ B σ ω t m L) (e : ext T c n σ ω σ1 ω1) (h1 : ¬ T t) (h0 : ¬ T 0) : LM κ B σ1 ω1 t m L := by
  obtain ⟨tb, ks, md, th, n', hm, hT, hK, hE, r⟩ := h
  refine ⟨tb, ks, md, th, n', oc_mv hm e h1, ?_, mpK_mv hK e h0, Ents_mv e h1 L none hE, r⟩
  cases tb with
  | none => exact hT
  | some a => exact oc_mv hT e h1
set_option maxHeartbeats 4000000 in
/-- HashSet.iterator -/
theorem p_iterator {κ : gK} {B : Nat → Nat} {F : Nat} {σ : gS} {ω : Nat → Nat} {t s m ti : Nat} {L : List mE} (hs : σ.1 s = some (.inr (12, [.ref m]))) (hL : LM κ B σ ω t m L) :
    ∃ it σ' ω', f_J27_iterator κ F (some s) σ = some (some it, σ') ∧ ext (fun x => x = t) 2 7 σ ω σ' ω' ∧ LM κ B σ' ω' t m L ∧ IT κ σ' ω' ti it t m L := by
  obtain ⟨tb, ks, md, th, n, hm, hT, hK, hE, hr⟩ := hL
  have hbn : κ.1 ≤ σ.2.1 := by have := hm.2.1; have := hm.2.2.2; omega
  -- the key set
  have hks : ∃ ka σ1 ω1, f_J2_keySet κ F (some m) σ = some (some ka, σ1) ∧ ext (fun x => x = t) 1 2 σ ω σ1 ω1 ∧ oc κ σ1 ω1 t m (mpC tb (some ka) (Int32.ofNat L.length) md th (hd L) (lst L)) ∧ oc κ σ1 ω1 0 ka (.inr (15, [.int 0, va_rf (some m)])) ∧ mpT κ σ1 ω1 t tb n L ∧ Ents κ B σ1 ω1 t n none L := by
    rw [f_J2_keySet, f_J2_keySet_0, mp_ck hm.1, gB1_s, f_J2_sequencedKeySet, f_J2_sequencedKeySet_0, mp_ks hm.1, gB1_s]
    cases ks with
    | some ka =>
      have hK : oc κ σ ω 0 ka (.inr (15, [.int 0, va_rf (some m)])) := hK
      rw [if_neg (by simp), gcc_u, hK.1, gcc9_s, gB1_s, gB2_s]
      exact ⟨ka, σ, ω, rfl, ext_mono (ext_refl _ _ _) (fun _ h => h) (by omega) (by omega), hm, hK, hT, hE⟩
    | none =>
      have hmo := oc_own hm 0
      have hmp := oc_pu hmo (.inr (15, g0_J33)) 2
      have hkp := oc_push (κ := κ) (σ := σ) (ω := own ω σ.2.1 0) (t := 0) hbn (own_new (Nat.le_refl _)) (.inr (15, g0_J33)) 2
      have hme : m ≠ σ.2.1 := by have := hm.2.1; omega
      have hem : σ.2.1 ≠ m := fun e => hme e.symm
      have hbm := hm.2.2.2
      have hm1 := hm.1
      simp only [mpC] at hm1
      refine ⟨σ.2.1, gup (gup (gup (gpush σ (.inr (15, g0_J33)) 2) σ.2.1 (.inr (15, [.int 0, va_rf (some m)]))) σ.2.1 (.inr (15, [.int 0, va_rf (some m)]))) m (mpC tb (some σ.2.1) (Int32.ofNat L.length) md th (hd L) (lst L)), own ω σ.2.1 0, ?_, ?_, ?_, ?_, ?_, ?_⟩
      · simp only [if_true, gnw, gB2_s, gsm_s, gB1_s, f_J33_init, f_J33_init_0, f_J26_init, f_J26_init_0, f_J23_init, f_J23_init_0, gpf_u, gpush_at, gup_at, gup_ne hme, gup_ne hem, gpush_ne hme, hm1, g0_J33, gpf9_s, hbn, hbm, gok_z0, List.set_cons_zero, List.set_cons_succ, List.length_cons, List.length_nil, Nat.reduceAdd, Nat.reduceLT, mpC]
      · refine ext_gup (fun _ => hm.2.2.1) (ext_gup (fun h => absurd h (Nat.lt_irrefl _)) (ext_gup (fun h => absurd h (Nat.lt_irrefl _)) ?_))
        have := ext_trans (ext_own (fun x => x = t) σ ω 0) (ext_push (fun x => x = t) σ (own ω σ.2.1 0) (.inr (15, g0_J33)) 2)
        exact ext_mono this (fun _ h => h) (by omega) (by omega)
      · exact oc_up (oc_up_ne (oc_up_ne hmp hme _) hme _) _
      · exact oc_up_ne (oc_up (oc_up hkp _) _) hem _
      · cases tb with
        | none => exact hT
        | some a =>
          have hT : oc κ σ ω t a (.inl (7, n, .inr (.inr (.inr (.inr (fun j => hb n j L)))))) := hT
          have h1 : a ≠ σ.2.1 := by have := hT.2.1; omega
          exact oc_up_ne (oc_up_ne (oc_up_ne (oc_pu (oc_own hT 0) _ _) h1 _) h1 _) (oc_ne hT hm (by simp [mpC])) _
      · refine EnX_same L none (fun y hy c hc => ?_) hE
        obtain ⟨fs, hy1⟩ := EnX_oc hE hy
        have h1 : y.1 ≠ σ.2.1 := by have := hy1.2.1; omega
        exact oc_up_ne (oc_up_ne (oc_up_ne (oc_pu (oc_own hc 0) _ _) h1 _) h1 _) (oc_ne hy1 hm (by simp [mpC])) _
  obtain ⟨ka, σ1, ω1, r1, r2, r3, r4, r5, r6⟩ := hks
  have hbn1 : κ.1 ≤ σ1.2.1 := by have := r2.1; omega
  have r40 := r4.1
  have r30 := r3.1
  simp only [mpC] at r30
  have hkn : ka ≠ σ1.2.1 := by have := r4.2.1; omega
  have hmn : m ≠ σ1.2.1 := by have := r3.2.1; omega
  refine ⟨σ1.2.1, gup (gup (gup (gup (gup (gpush σ1 (.inr (14, g0_J37)) 5) σ1.2.1 (.inr (14, [.null, .null, .int 0, .int 0, va_rf (some m)]))) σ1.2.1 (.inr (14, [.null, .null, .int 0, .int 0, va_rf (some m)]))) σ1.2.1 (.inr (14, [va_rf (hd L), .null, .int 0, .int 0, va_rf (some m)]))) σ1.2.1 (.inr (14, [va_rf (hd L), .null, .int md, .int 0, va_rf (some m)]))) σ1.2.1 (.inr (14, [va_rf (hd L), va_rf none, .int md, .int 0, va_rf (some m)])), own ω1 σ1.2.1 ti, ?_, ?_, ?_, ?_⟩
  · rw [f_J27_iterator, f_J27_iterator_0]
    simp only [gfR_u, hs, gcf_s, List.getElem?_cons_zero, gvR_ref, gB1_s, mp_ck hm.1, r1, gB2_s, gck_u, r40, gcc9_s, f_J33_iterator, f_J33_iterator_0, gnw, gpush_ne hkn, List.getElem?_cons_succ, gvR_rf, gfI_u, gvI_int, gsm_s, f_J37_init, f_J37_init_0, f_J36_init, f_J36_init_0, f_J36_init_30, gpf_u, gpush_at, gup_at, gup_ne hmn, gpush_ne hmn, r30, g0_J37, gpf9_s, hbn1, gok_z0, if_true, List.set_cons_zero, List.set_cons_succ, List.length_cons, List.length_nil, Nat.reduceAdd, Nat.reduceLT]
  · repeat refine ext_gup (fun h => absurd h (by have := r2.1; omega)) ?_
    have := ext_trans (ext_trans r2 (ext_own (fun x => x = t) σ1 ω1 ti)) (ext_push (fun x => x = t) σ1 (own ω1 σ1.2.1 ti) (.inr (14, g0_J37)) 5)
    exact ext_mono this (fun _ h => h) (by omega) (by omega)
  · have key : ∀ a c t', oc κ σ1 ω1 t' a c → oc κ (gup (gup (gup (gup (gup (gpush σ1 (.inr (14, g0_J37)) 5) σ1.2.1 (.inr (14, [.null, .null, .int 0, .int 0, va_rf (some m)]))) σ1.2.1 (.inr (14, [.null, .null, .int 0, .int 0, va_rf (some m)]))) σ1.2.1 (.inr (14, [va_rf (hd L), .null, .int 0, .int 0, va_rf (some m)]))) σ1.2.1 (.inr (14, [va_rf (hd L), .null, .int md, .int 0, va_rf (some m)]))) σ1.2.1 (.inr (14, [va_rf (hd L), va_rf none, .int md, .int 0, va_rf (some m)]))) (own ω1 σ1.2.1 ti) t' a c := fun a c t' h => by
      have h1 : a ≠ σ1.2.1 := by have := h.2.1; omega
      exact oc_up_ne (oc_up_ne (oc_up_ne (oc_up_ne (oc_up_ne (oc_pu (oc_own h ti) _ _) h1 _) h1 _) h1 _) h1 _) h1 _
    refine ⟨tb, some ka, md, th, n, key _ _ _ r3, ?_, key _ _ _ r4, EnX_same L none (fun y hy c hc => key _ _ _ hc) r6, hr⟩
    cases tb with
    | none => exact r5
    | some a => exact key _ _ _ r5
  · have hp := oc_push (κ := κ) (σ := σ1) (ω := own ω1 σ1.2.1 ti) (t := ti) hbn1 (own_new (Nat.le_refl _)) (.inr (14, g0_J37)) 5
    exact ⟨none, md, _, oc_up (oc_up (oc_up (oc_up (oc_up hp _) _) _) _) _, oc_up_ne (oc_up_ne (oc_up_ne (oc_up_ne (oc_up_ne (oc_pu (oc_own r3 ti) _ _) hmn _) hmn _) hmn _) hmn _) hmn _, rfl⟩
theorem p_hasNext {κ : gK} {F : Nat} {σ : gS} {ω : Nat → Nat} {ti it t m : Nat} {R : List mE} (h : IT κ σ ω ti it t m R) : f_J36_hasNext κ F (some it) σ = some (if R = [] then 0 else 1, σ) := by
  obtain ⟨cur, md, fs, a1, a2, a3⟩ := h
  simp only [f_J36_hasNext, f_J36_hasNext_0, f_J36_hasNext_12, gfR_u, a1.1, gcf_s, List.getElem?_cons_zero, gvR_rf, gB1_s, gok_z0, gok_z1]
  cases R with
  | nil => rw [if_pos (show hd ([] : List mE) = none from rfl), if_pos rfl]
  | cons x R => rw [hd_cons, if_neg (by simp), if_neg (by simp)]
theorem p_next {κ : gK} {B : Nat → Nat} {F : Nat} {σ : gS} {ω : Nat → Nat} {ti it t m : Nat} {L D R : List mE} {x : mE} (h : IT κ σ ω ti it t m (x :: R)) (hL : LM κ B σ ω t m L) (hD : L = D ++ x :: R) (hti : ti ≠ t) : ∃ σ', f_J37_next κ F (some it) σ = some (some (B x.2.1), σ') ∧ ext (fun y => y = ti) 0 0 σ ω σ' ω ∧ IT κ σ' ω ti it t m R := by
  obtain ⟨cur, md, fs, a1, a2, a3⟩ := h
  obtain ⟨tb, ks, md2, th, n, hm, hT, hK, hE, hr⟩ := hL
  have hx := ((EnX_iff _ _).mp hE D x R hD).1
  have hix : it ≠ x.1 := oc_ne a1 hx (by simp [enX])
  have hxi : x.1 ≠ it := fun e => hix e.symm
  have hmi : m ≠ it := oc_ne a2 a1 (by simp)
  have hb := a1.2.2.2
  have hx1 := hx.1
  simp only [enX] at hx1
  refine ⟨_, (by simp only [f_J37_next, f_J37_next_0, gck_u, a1.1, gcc9_s, gB1_s, f_J36_nextNode, f_J36_nextNode_0, f_J36_nextNode_63, gfR_u, gcf_s, List.getElem?_cons_zero, List.getElem?_cons_succ, gvR_rf, gfI_u, a2.1, a3, gvI_int, if_true, hd_cons, reduceCtorEq, if_false, gpf_u, gpf9_s, hb, List.set_cons_zero, List.set_cons_succ, List.length_cons, List.length_nil, Nat.reduceAdd, Nat.reduceLT, gup_at, gup_ne hxi, hx1, gB2_s, f_J18_getKey, f_J18_getKey_0]; rfl), ?_, ?_⟩
  · exact ext_gup (fun _ => a1.2.2.1) (ext_gup (fun _ => a1.2.2.1) (ext_refl _ _ _))
  · exact ⟨some x.1, md, fs, oc_up (oc_up a1 _) _, oc_up_ne (oc_up_ne a2 hmi _) hmi _, a3⟩
