theorem fnd_rm (k j : Nat) (L : List mE) : fnd j (rm k L) = if j = k then none else fnd j L := by
  induction L with
  | nil => by_cases h : j = k <;> simp [rm, fnd, h]
  | cons x L ih =>
    by_cases hx : x.2.1 = k
    · rw [rm_hit hx, ih, fnd_cons]
      by_cases h : j = k
      · rw [if_pos h, if_pos h]
      · rw [if_neg h, if_neg h, if_neg (fun e => h (by rw [← e, hx]))]
    · rw [rm_miss hx, fnd_cons, ih, fnd_cons]
      by_cases h : j = k
      · rw [if_pos h, if_pos h, if_neg (fun e => hx (by rw [e, h]))]
      · rw [if_neg h, if_neg h]
theorem kys_rm (k : Nat) (L : List mE) : kys (rm k L) = (kys L).filter (fun j => j != k) := by
  unfold kys rm
  rw [List.filter_map]
  rfl
def remE (κ : gK) (B : Nat → Nat) (σ : gS) (ω : Nat → Nat) (t m k : Nat) (L : List mE) (o : Option (Option Nat × gS)) : Prop :=
  ∃ e σ', o = some (e, σ') ∧ ext (fun x => x = t) 0 0 σ ω σ' ω ∧ LM κ B σ' ω t m (rm k L) ∧ (match fnd k L with
    | none => e = none
    | some x => e = some x.1 ∧ gfR σ' (some x.1) 11 2 = some x.2.2)
theorem rm_split {k : Nat} {A C : List mE} {x : mE} (hnd : ((A ++ x :: C).map (fun x => x.2.1)).Nodup) (hxk : x.2.1 = k) : rm k (A ++ x :: C) = A ++ C ∧ fnd k (A ++ x :: C) = some x ∧ fnd k A = none ∧ fnd k C = none := by
  have hA : fnd k A = none := fnd_none.mpr fun y hy => by have := nodup_key hnd rfl (Or.inl hy); rwa [hxk] at this
  have hC : fnd k C = none := fnd_none.mpr fun y hy => by have := nodup_key hnd rfl (Or.inr hy); rwa [hxk] at this
  refine ⟨by rw [rm_app, rm_hit hxk, rm_none hA, rm_none hC], ?_, hA, hC⟩
  clear hnd
  induction A with
  | nil => rw [List.nil_append, fnd_cons, if_pos hxk]
  | cons y A ih =>
    rw [List.cons_append, fnd_cons, if_neg (fnd_none.mp hA y List.mem_cons_self)]
    exact ih (fnd_none.mpr fun x hx => fnd_none.mp hA x (List.mem_cons_of_mem _ hx))
set_option maxHeartbeats 4000000 in
theorem p_removeNode {κ : gK} {B : Nat → Nat} {F : Nat} {σ : gS} {ω : Nat → Nat} {t m k : Nat} {L : List mE} (hF : 64 ≤ F) (hL : LM κ B σ ω t m L) (ht0 : t ≠ 0) (hk : k < 32) :
    remE κ B σ ω t m k L (f_J1_removeNode κ F (some m) (Int32.ofNat k) (some (B k)) none 0 1 σ) := by
  have hL0 := hL
  obtain ⟨tb, ks, md, th, n, hm, hT, hK, hE, hnd, hn, hth, hth0⟩ := hL
  have hmiss : fnd k L = none → remE κ B σ ω t m k L (f_J1_removeNode_289 κ F σ) := fun h => by
    refine ⟨none, σ, rfl, ext_refl _ _ _, ?_, ?_⟩
    · rw [rm_none h]; exact hL0
    · rw [h]
  rw [f_J1_removeNode, f_J1_removeNode_0, mp_t hm.1, gB1_s]
  cases tb with
  | none =>
    have hT : L = [] := hT
    subst hT
    rw [if_pos rfl]
    exact hmiss rfl
  | some a =>
    have hT : oc κ σ ω t a (.inl (7, n, .inr (.inr (.inr (.inr (fun j => hb n j L)))))) := hT
    obtain ⟨h1, hle⟩ := hth (by simp)
    subst h1
    have hn2 : k % n < n := Nat.mod_lt _ (by omega)
    rw [if_neg (by simp), gal_u, hT.1, gal9_s _ _ _ (by decide), gB1_s, if_neg (mp_len (z := 0) n hn), maskk n k hk hn, gaR_u, hT.1, gar9_s (by decide) hn2 (by omega), gB1_s]
    cases hh : hb n (k % n) L with
    | none => rw [if_pos rfl]; exact hmiss (fnd_none_of_hb rfl hh)
    | some e =>
      obtain ⟨A, x, C, hL, rfl, hxj, hA⟩ := hb_mem hh
      have hx := (EnX_iff _ _).mp hE A x C hL
      rw [if_neg (by simp), en_h hx.1.1, gB1_s]
      by_cases hxk : x.2.1 = k
      · subst hL
        obtain ⟨z1, z2, z3, z4⟩ := rm_split hnd hxk
        rw [if_pos (congrArg Int32.ofNat hxk), en_k hx.1.1, gB1_s, if_pos (by rw [hxk]), f_J1_removeNode_74, f_J1_removeNode_171, if_neg (by simp), if_pos rfl, f_J1_removeNode_206, en_io hx.1.1, gB1_s, if_pos rfl, if_pos rfl, en_n hx.1.1, gB1_s, oc_sR hT (by decide) hn2 (by omega) (v := nxn n x C) ?_, gB1_s]
        · have hfun : va_up (fun j => hb n j (A ++ x :: C)) (k % n) (nxn n x C) = fun j => hb n j (A ++ C) := by
            funext j
            unfold va_up
            show _ = hb n j (A ++ C)
            rw [hb_app]
            by_cases h : j = k % n
            · rw [if_pos h, h, hA]
              show hb n (x.2.1 % n) C = _
              rw [hxj]; rfl
            · rw [if_neg h]
              show hb n j (A ++ x :: C) = _
              rw [hb_app, hb_cons, if_neg (fun e => h (by rw [← e, hxj]))]
          rw [hfun]
          have e1 := oc_ext_up hT (.inl (7, n, .inr (.inr (.inr (.inr (fun j => hb n j (A ++ C))))))) (fun x => x = t) rfl
          obtain ⟨σ', q1, q2, q3, q4⟩ := p_260 (F := F) (oc_up_ne hm (oc_ne hm hT (by simp [mpC])) _) (oc_up hT _) (mpK_mv hK e1 (fun e => ht0 e.symm)) ht0 (k := k) (EnX_congr (EnX_same (σ1 := gup σ a (.inl (7, n, .inr (.inr (.inr (.inr (fun j => hb n j (A ++ C)))))))) (ω1 := ω) _ none (fun y hy c hc => by
            obtain ⟨fs, hy1⟩ := EnX_oc hE hy
            exact oc_up_ne hc (oc_ne hy1 hT (by simp)) _) hE) (fun A' y C' e => by
              show hb n (y.2.1 % n) C' = hb n (y.2.1 % n) (rm k C')
              by_cases hy : y.2.1 % n = k % n
              · rw [rm_none]
                refine fnd_none.mpr fun z hz ez => ?_
                obtain ⟨C1, C2, e2⟩ := List.append_of_mem hz
                have e3 : A ++ x :: C = (A' ++ y :: C1) ++ z :: C2 := by rw [e, e2]; simp
                obtain ⟨r1, r2, r3⟩ := key_split hnd rfl e3 (hxk.trans ez.symm)
                exact hb_none.mp hA y (by rw [r1]; simp) hy
              · rw [hb_rm (fun e => hy e.symm)])) hxk hnd hn hle
          refine ⟨some x.1, σ', q1, ext_trans e1 q2, ?_, ?_⟩
          · rw [z1]; exact q3
          · rw [z2]; exact ⟨rfl, q4⟩
        · show gokR κ σ 7 (hb n (x.2.1 % n) C)
          cases h9 : hb n (x.2.1 % n) C with
          | none => trivial
          | some e9 =>
            obtain ⟨A9, y9, C9, r1, r2, -⟩ := hb_mem h9
            obtain ⟨fs, hy1⟩ := EnX_oc hE (y := y9) (by rw [r1]; simp)
            rw [← r2]
            exact gok7 hy1.1
      · rw [if_neg (fun e => hxk ((i3_inj (by omega) (by omega)).mp e)), f_J1_removeNode_81, en_n hx.1.1, gB1_s]
        have hnxx : nxn n x C = hb n (k % n) C := by
          show hb n (x.2.1 % n) C = _
          rw [hxj]
        rw [hnxx]
        cases hC : hb n (k % n) C with
        | none =>
          rw [if_pos rfl, f_J1_removeNode_171, if_pos rfl]
          refine hmiss (fnd_none.mpr fun y hy e => ?_)
          rw [hL] at hy
          simp only [List.mem_append, List.mem_cons] at hy
          rcases hy with hy | hy | hy
          · exact hb_none.mp hA y hy (by rw [e])
          · exact hxk (by rw [← hy]; exact e)
          · exact hb_none.mp hC y hy (by rw [e])
        | some e2 =>
          obtain ⟨A2, x2, C2, hC2, rfl, hx2j, hA2⟩ := hb_mem hC
          have hL2 : L = (A ++ x :: A2) ++ x2 :: C2 := by rw [hL, hC2]; simp
          have hx2 := (EnX_iff _ _).mp hE _ x2 C2 hL2
          have hne : x2.2.1 ≠ x.2.1 := nodup_key hnd hL (Or.inr (by rw [hC2]; simp))
          have hx2k : x2.2.1 = k := bk2 hn hx.2 hx2.2 hk hxj hx2j (fun e => hne e.symm) hxk
          have hx12 : x2.1 ≠ x.1 := fun e => hne (EnX_inj hE (by rw [hL2]; simp) (by rw [hL]; simp) e)
          obtain ⟨f, rfl⟩ : ∃ f, F = f + 1 := ⟨F - 1, by omega⟩
          rw [if_neg (by simp), en_io hx.1.1, gB1_s, if_pos rfl, f_J1_removeNode_115, f_J1_removeNode_115b, en_h hx2.1.1, gB1_s, if_pos (congrArg Int32.ofNat hx2k), en_k hx2.1.1, gB1_s, if_pos (by rw [hx2k]), f_J1_removeNode_149, f_J1_removeNode_171, if_neg (by simp), if_pos rfl, f_J1_removeNode_206, en_io hx2.1.1, gB1_s, if_pos rfl, if_neg (fun e => hx12 (Option.some.inj e)), en_n hx2.1.1, gB1_s]
          obtain ⟨g1, hE1⟩ := EnX_setn hE hnd hL (nxn n x2 C2)
          rw [g1, gB1_s]
          have e1 := oc_ext_up hx.1 (enX B (nxn n x2 C2) (prv none A) x C) (fun x => x = t) rfl
          have hnd2 := hnd
          rw [hL2] at hnd2
          obtain ⟨z1, z2, z3, z4⟩ := rm_split hnd2 hx2k
          have hC20 : hb n (k % n) C2 = none := hb_none.mpr fun y hy e => by
            have hy2 : y ∈ L := by rw [hL2]; simp [hy]
            have h1 := EnX_32 hE y hy2
            have h2 := nodup_key hnd hL2 (Or.inr hy)
            have h3 := nodup_key hnd hL (y := y) (Or.inr (by rw [hC2]; simp [hy]))
            exact h2 (by rw [hx2k]; exact bk2 hn hx.2 h1 hk hxj e (fun e => h3 e.symm) hxk)
          have hEr : EnX κ B (gup σ x.1 (enX B (nxn n x2 C2) (prv none A) x C)) ω t (nxR n k) none L := EnX_congr hE1 fun A' y C' e => by
            show (if y.2.1 = x.2.1 then nxn n x2 C2 else nxn n y C') = hb n (y.2.1 % n) (rm k C')
            by_cases hy : y.2.1 = x.2.1
            · obtain ⟨rfl, rfl, rfl⟩ := key_split hnd e hL hy
              rw [if_pos rfl]
              show hb n (x2.2.1 % n) C2 = _
              rw [hC2, rm_app, rm_hit hx2k, rm_none z4, hb_app, hx2j, hxj, hC20]
              have hA2k : fnd k A2 = none := fnd_none.mpr fun w hw e => hb_none.mp hA2 w hw (by rw [e])
              rw [rm_none hA2k, hA2]; rfl
            · rw [if_neg hy]
              by_cases hy2 : y.2.1 % n = k % n
              · have hyk : y.2.1 = k := bk2 hn hx.2 (EnX_32 hE y (by rw [e]; simp)) hk hxj hy2 (fun e => hy e.symm) hxk
                obtain ⟨rfl, rfl, rfl⟩ := key_split hnd e hL2 (hyk.trans hx2k.symm)
                rw [rm_none z4]
              · rw [hb_rm (fun e => hy2 e.symm)]
          have hTf : (fun j => hb n j L) = fun j => hb n j (A ++ x :: A2 ++ C2) := by
            funext j
            rw [hL2, hb_app, hb_app n j (A ++ x :: A2), hb_cons]
            by_cases h : x2.2.1 % n = j
            · rw [if_pos h]
              have : hb n j (A ++ x :: A2) = some x.1 := by
                rw [← h, hx2j, hb_app, hA, hb_cons, if_pos hxj]; rfl
              rw [this]; rfl
            · rw [if_neg h]
          have hm1 := oc_up_ne hm (oc_ne hm hx.1 (by simp [mpC, enX])) (enX B (nxn n x2 C2) (prv none A) x C)
          have hT1 := oc_up_ne hT (oc_ne hT hx.1 (by simp [enX])) (enX B (nxn n x2 C2) (prv none A) x C)
          rw [hTf] at hT1
          rw [hL2] at hm1 hEr hle
          obtain ⟨σ', q1, q2, q3, q4⟩ := p_260 (F := f + 1) hm1 hT1 (mpK_mv hK e1 (fun e => ht0 e.symm)) ht0 hEr hx2k hnd2 hn hle
          refine ⟨some x2.1, σ', q1, ext_trans e1 q2, ?_, ?_⟩
          · rw [hL2, z1]; exact q3
          · rw [hL2, z2]; exact ⟨rfl, q4⟩
/-- HashMap.remove -/
theorem p_remove {κ : gK} {B : Nat → Nat} {F : Nat} {σ : gS} {ω : Nat → Nat} {t m k : Nat} {L : List mE} (hF : 64 ≤ F) (hB : bdK κ B σ ω) (hL : LM κ B σ ω t m L) (ht0 : t ≠ 0) (hk : k < 32) :
    ∃ σ', f_J1_remove κ F (some m) (some (B k)) σ = some ((vls L k).elim none id, σ') ∧ ext (fun x => x = t) 0 0 σ ω σ' ω ∧ LM κ B σ' ω t m (rm k L) := by
  have hck : gck σ (some m) 10 = some () := by
    obtain ⟨tb, ks, md, th, n, hm, -⟩ := hL
    exact mp_ck hm.1
  obtain ⟨e, σ', q1, q2, q3, q4⟩ := p_removeNode hF hL ht0 hk
  refine ⟨σ', ?_, q2, q3⟩
  rw [f_J1_remove, f_J1_remove_0, p_hash (hB k hk).1 hk, gB2_s, hck, gB1_s, q1, gB2_s]
  unfold vls
  cases hf : fnd k L with
  | none =>
    rw [hf] at q4
    subst q4
    rw [if_pos rfl]; rfl
  | some x =>
    rw [hf] at q4
    obtain ⟨rfl, q5⟩ := q4
    rw [if_neg (by simp), q5, gB1_s]; rfl
/-- HashSet.remove, contains, size -/
theorem p_sremove {κ : gK} {B : Nat → Nat} {F : Nat} {σ : gS} {ω : Nat → Nat} {t s m k : Nat} {L : List mE} (hF : 64 ≤ F) (hB : bdK κ B σ ω) (hs : σ.1 s = some (.inr (12, [.ref m]))) (hL : LM κ B σ ω t m L) (ht0 : t ≠ 0) (hk : k < 32) :
    ∃ r σ', f_J27_remove κ F (some s) (some (B k)) σ = some (r, σ') ∧ ext (fun x => x = t) 0 0 σ ω σ' ω ∧ LM κ B σ' ω t m (rm k L) := by
  have hck : gck σ (some m) 10 = some () := by
    obtain ⟨tb, ks, md, th, n, hm, -⟩ := hL
    exact mp_ck hm.1
  obtain ⟨σ', q1, q2, q3⟩ := p_remove hF hB hL ht0 hk
  rw [f_J27_remove, f_J27_remove_0]
  simp only [gfR_u, hs, gcf_s, List.getElem?_cons_zero, gvR_ref, gB1_s, hck, q1, gB2_s, f_J27_remove_19, gok_z0, gok_z1]
  by_cases h : (vls L k).elim none id = (κ.2 3)
  · rw [if_pos h]; exact ⟨_, σ', rfl, q2, q3⟩
  · rw [if_neg h]; exact ⟨_, σ', rfl, q2, q3⟩
theorem p_contains {κ : gK} {B : Nat → Nat} {F : Nat} {σ : gS} {ω : Nat → Nat} {t s m q k : Nat} {L : List mE} (hF : 64 ≤ F) (hB : bdK κ B σ ω) (hs : σ.1 s = some (.inr (12, [.ref m]))) (hL : LM κ B σ ω t m L) (hq : σ.1 q = some (.inr (1, [.int (Int32.ofNat k)]))) (hk : k < 32) :
    f_J27_contains κ F (some s) (some q) σ = some (if (fnd k L).isSome then 1 else 0, σ) := by
  have hck : gck σ (some m) 10 = some () := by
    obtain ⟨tb, ks, md, th, n, hm, -⟩ := hL
    exact mp_ck hm.1
  rw [f_J27_contains, f_J27_contains_0]
  simp only [gfR_u, hs, gcf_s, List.getElem?_cons_zero, gvR_ref, gB1_s, hck, p_containsKey hF hB hL hq hk, gB2_s]
  cases fnd k L with
  | none => simp [gok_z0, gB1_s]
  | some x => simp [gok_z1, gB1_s]
theorem p_ssize {κ : gK} {B : Nat → Nat} {F : Nat} {σ : gS} {ω : Nat → Nat} {t s m : Nat} {L : List mE} (hs : σ.1 s = some (.inr (12, [.ref m]))) (hL : LM κ B σ ω t m L) :
    f_J27_size κ F (some s) σ = some (Int32.ofNat L.length, σ) := by
  obtain ⟨tb, ks, md, th, n, hm, -⟩ := hL
  rw [f_J27_size, f_J27_size_0]
  simp only [gfR_u, hs, gcf_s, List.getElem?_cons_zero, gvR_ref, gB1_s, mp_ck hm.1, f_J1_size, f_J1_size_0, mp_z hm.1, gB2_s]
