/-- the entry at the end of its bucket takes the new one behind it; or the bucket was empty -/
theorem nxA_link {κ : gK} {B : Nat → Nat} {σ : gS} {ω : Nat → Nat} {t n : Nat} {L : List mE} {z : mE} (hE : EnX κ B σ ω t (fun y Ly => nxn n y Ly.dropLast) none (L ++ [z])) (hb0 : hb n (z.2.1 % n) L = none) : Ents κ B σ ω t n none (L ++ [z]) := by
  refine EnX_congr hE fun A x C e => ?_
  rcases snoc_split e with ⟨rfl, rfl, rfl⟩ | ⟨C', rfl, h⟩
  · rfl
  · rw [List.dropLast_concat]
    show hb n (x.2.1 % n) C' = hb n (x.2.1 % n) (C' ++ [z])
    rw [hb_app, hb_cons, if_neg (fun e => hb_none.mp hb0 x (by rw [h]; simp) e.symm)]
    cases hb n (x.2.1 % n) C' <;> rfl
theorem nxA_link2 {κ : gK} {B : Nat → Nat} {σ : gS} {ω : Nat → Nat} {t n : Nat} {L A C : List mE} {z p : mE} (hE : EnX κ B σ ω t (fun y Ly => nxn n y Ly.dropLast) none (L ++ [z])) (hnd : ((L ++ [z]).map (fun x => x.2.1)).Nodup) (hL : L = A ++ p :: C) (hp : p.2.1 % n = z.2.1 % n) (hC : hb n (z.2.1 % n) C = none) (hA : hb n (z.2.1 % n) A = none) :
    gpf κ σ (some p.1) 11 3 (va_rf (some z.1)) = some (gup σ p.1 (enX B (some z.1) (prv none A) p (C ++ [z]))) ∧ Ents κ B (gup σ p.1 (enX B (some z.1) (prv none A) p (C ++ [z]))) ω t n none (L ++ [z]) := by
  have hL2 : L ++ [z] = A ++ p :: (C ++ [z]) := by rw [hL]; simp
  obtain ⟨h1, h2⟩ := EnX_setn hE hnd hL2 (some z.1)
  refine ⟨h1, EnX_congr h2 fun A' x C' e => ?_⟩
  by_cases hx : x.2.1 = p.2.1
  · obtain ⟨rfl, rfl, rfl⟩ := key_split hnd e hL2 hx
    rw [if_pos rfl]
    show _ = hb n (x.2.1 % n) (C ++ [z])
    rw [hb_app, hp, hC, hb_cons, if_pos rfl]; rfl
  · rw [if_neg hx]
    rcases snoc_split e with ⟨rfl, rfl, rfl⟩ | ⟨C2, rfl, h⟩
    · rfl
    · rw [List.dropLast_concat]
      show hb n (x.2.1 % n) C2 = hb n (x.2.1 % n) (C2 ++ [z])
      rw [hb_app, hb_cons]
      by_cases hz : z.2.1 % n = x.2.1 % n
      · exfalso
        have hm : x ∈ L := by rw [h]; simp
        rw [hL] at hm
        simp only [List.mem_append, List.mem_cons] at hm
        rcases hm with hm | hm | hm
        · exact hb_none.mp hA x hm hz.symm
        · exact hx (by rw [hm])
        · exact hb_none.mp hC x hm hz.symm
      · rw [if_neg hz]
        cases hb n (x.2.1 % n) C2 <;> rfl
/-- the values by their keys, the keys in their order -/
def vls (L : List mE) (k : Nat) : Option (Option Nat) := (fnd k L).map (fun x => x.2.2)
def kys (L : List mE) : List Nat := L.map (fun x => x.2.1)
theorem vls_set {A C : List mE} {x : mE} {v : Option Nat} {k : Nat} (hk : x.2.1 = k) (hA : fnd k A = none) (j : Nat) : vls (A ++ (x.1, x.2.1, v) :: C) j = if j = k then some v else vls (A ++ x :: C) j := by
  unfold vls
  induction A with
  | nil =>
    simp only [List.nil_append, fnd_cons, hk]
    by_cases h : k = j
    · rw [if_pos h, if_pos h.symm]; rfl
    · rw [if_neg h, if_neg (fun e => h e.symm), if_neg h]
  | cons y A ih =>
    have hy : y.2.1 ≠ k := fnd_none.mp hA y List.mem_cons_self
    have hA2 : fnd k A = none := fnd_none.mpr fun x hx => fnd_none.mp hA x (List.mem_cons_of_mem _ hx)
    simp only [List.cons_append, fnd_cons]
    by_cases h : y.2.1 = j
    · rw [if_pos h, if_neg (fun e => hy (h.trans e)), if_pos h]
    · rw [if_neg h, if_neg h]
      exact ih hA2
theorem vls_app {L : List mE} {e k : Nat} {v : Option Nat} (h : fnd k L = none) (j : Nat) : vls (L ++ [(e, k, v)]) j = if j = k then some v else vls L j := by
  unfold vls
  induction L with
  | nil =>
    simp only [List.nil_append, fnd_cons]
    by_cases h2 : k = j
    · rw [if_pos h2, if_pos h2.symm]; rfl
    · rw [if_neg h2, if_neg (fun e => h2 e.symm)]
  | cons y A ih =>
    have hy : y.2.1 ≠ k := fnd_none.mp h y List.mem_cons_self
    have hA2 : fnd k A = none := fnd_none.mpr fun x hx => fnd_none.mp h x (List.mem_cons_of_mem _ hx)
    simp only [List.cons_append, fnd_cons]
    by_cases h3 : y.2.1 = j
    · rw [if_pos h3, if_neg (fun e => hy (h3.trans e)), if_pos h3]
    · rw [if_neg h3, if_neg h3]
      exact ih hA2
theorem nodup32 {l : List Nat} (hn : l.Nodup) (h : ∀ x ∈ l, x < 32) : l.length ≤ 32 := by
  have h1 := List.Nodup.length_le_of_subset hn (l₂ := List.range 32) (fun x hx => List.mem_range.mpr (h x hx))
  rwa [List.length_range] at h1
theorem EnX_32 {κ : gK} {B : Nat → Nat} {σ : gS} {ω : Nat → Nat} {t : Nat} {nx : mE → List mE → Option Nat} {pre : Option Nat} {L : List mE} (h : EnX κ B σ ω t nx pre L) : ∀ y ∈ L, y.2.1 < 32 := fun y hy => by
  obtain ⟨A, C, e⟩ := List.append_of_mem hy
  exact ((EnX_iff _ _).mp h A y C e).2
theorem nodup_snoc {L : List mE} {e k : Nat} {v : Option Nat} (h : (L.map (fun x => x.2.1)).Nodup) (hk : fnd k L = none) : ((L ++ [(e, k, v)]).map (fun x => x.2.1)).Nodup := by
  rw [List.map_append, List.nodup_append]
  refine ⟨h, by simp, fun a ha b hb => ?_⟩
  obtain ⟨x, hx, rfl⟩ := List.mem_map.mp ha
  simp only [List.map_cons, List.map_nil, List.mem_singleton] at hb
  subst hb
  exact fnd_none.mp hk x hx
theorem mpK_mv {κ : gK} {T : Nat → Prop} {c n : Nat} {σ σ1 : gS} {ω ω1 : Nat → Nat} {m : Nat} {ks : Option Nat} (h : mpK κ σ ω m ks) (e : ext T c n σ ω σ1 ω1) (ht : ¬ T 0) : mpK κ σ1 ω1 m ks := by
  cases ks with
  | none => trivial
  | some b => exact oc_mv h e ht
/-- a put's end: what it gives, where it leads -/
def putE (κ : gK) (B : Nat → Nat) (σ : gS) (ω : Nat → Nat) (t m k : Nat) (v : Option Nat) (L : List mE) (o : Option (Option Nat × gS)) (c n : Nat) : Prop :=
  ∃ σ' L', o = some ((vls L k).elim none id, σ') ∧ ext (fun x => x = t) c n σ ω σ' ω ∧ LM κ B σ' ω t m L' ∧ (∀ j, vls L' j = if j = k then some v else vls L j) ∧ kys L' = if (fnd k L).isSome then kys L else kys L ++ [k]
theorem p_found {κ : gK} {B : Nat → Nat} {F : Nat} {σ : gS} {ω : Nat → Nat} {t m n a k : Nat} {v : Option Nat} {A C : List mE} {x : mE} {ks : Option Nat} {md : Int32} (hm : oc κ σ ω t m (mpC (some a) ks (Int32.ofNat (A ++ x :: C).length) md (Int32.ofNat (n * 3 / 4)) (hd (A ++ x :: C)) (lst (A ++ x :: C)))) (hT : oc κ σ ω t a (.inl (7, n, .inr (.inr (.inr (.inr (fun j => hb n j (A ++ x :: C)))))))) (hK : mpK κ σ ω m ks) (ht0 : t ≠ 0) (hE : Ents κ B σ ω t n none (A ++ x :: C)) (hnd : ((A ++ x :: C).map (fun x => x.2.1)).Nodup) (hn : n = 16 ∨ n = 32 ∨ n = 64) (hle : (A ++ x :: C).length ≤ n * 3 / 4) (hxk : x.2.1 = k) (hA : fnd k A = none) :
    putE κ B σ ω t m k v (A ++ x :: C) (f_J1_putVal_222 κ F (some m) v 0 1 (some x.1) σ) 0 0 := by
  have hx := ((EnX_iff _ _).mp hE A x C rfl).1
  have hf : fnd k (A ++ x :: C) = some x := by
    clear hm hT hE hnd hle hx
    induction A with
    | nil => rw [List.nil_append, fnd_cons, if_pos hxk]
    | cons y A ih =>
      rw [List.cons_append, fnd_cons, if_neg (fnd_none.mp hA y List.mem_cons_self)]
      exact ih (fnd_none.mpr fun x hx => fnd_none.mp hA x (List.mem_cons_of_mem _ hx))
  have he := oc_ext_up hx (enX B (hb n (x.2.1 % n) C) (prv none A) (x.1, x.2.1, v) C) (fun x => x = t) rfl
  refine ⟨_, A ++ (x.1, x.2.1, v) :: C, ?_, he, ⟨some a, ks, md, Int32.ofNat (n * 3 / 4), n, ?_, ?_, mpK_mv hK he (fun e => ht0 e.symm), (EnX_setv hE hnd rfl v).2, ?_, hn, fun _ => ⟨rfl, ?_⟩, fun e => by cases e⟩, vls_set hxk hA, ?_⟩
  · rw [p_put222 hm hE hnd]
    simp only [vls, hf, Option.map_some, Option.elim, id]
  · rw [hd_congr, lst_congr, show (A ++ (x.1, x.2.1, v) :: C).length = (A ++ x :: C).length by simp]
    exact oc_up_ne hm (oc_ne hm hx (by simp [mpC, enX])) _
  · have h1 := oc_up_ne hT (oc_ne hT hx (by simp [enX])) (enX B (hb n (x.2.1 % n) C) (prv none A) (x.1, x.2.1, v) C)
    show oc κ _ ω t a _
    simp only [hb_congr]
    exact h1
  · simpa using hnd
  · simpa using hle
  · rw [hf]
    simp [kys]
set_option maxHeartbeats 4000000 in
theorem p_put29 {κ : gK} {B : Nat → Nat} {F : Nat} {σ : gS} {ω : Nat → Nat} {t m n a k : Nat} {v : Option Nat} {L : List mE} {ks : Option Nat} {md : Int32} (hF : 64 ≤ F) (hB : bdK κ B σ ω) (hm : oc κ σ ω t m (mpC (some a) ks (Int32.ofNat L.length) md (Int32.ofNat (n * 3 / 4)) (hd L) (lst L))) (hT : oc κ σ ω t a (.inl (7, n, .inr (.inr (.inr (.inr (fun j => hb n j L))))))) (hK : mpK κ σ ω m ks) (ht0 : t ≠ 0) (hE : Ents κ B σ ω t n none L) (hnd : (L.map (fun x => x.2.1)).Nodup) (hn : n = 16 ∨ n = 32 ∨ n = 64) (hω : ∀ b, σ.2.1 ≤ b → ω b = t) (hle : L.length ≤ n * 3 / 4) (hk : k < 32) :
    putE κ B σ ω t m k v L (f_J1_putVal_29 κ F (some m) (Int32.ofNat k) (some (B k)) v 0 1 (some a) (Int32.ofNat n) σ) 2 70 := by
  have hn2 : k % n < n := Nat.mod_lt _ (by omega)
  have h32 := EnX_32 hE
  have h32l : L.length ≤ 32 := by have := nodup32 hnd (by simpa using fun x a b h => h32 _ h); simpa using this
  rw [f_J1_putVal_29, maskk n k hk hn, gaR_u, hT.1, gar9_s (by decide) hn2 (by omega), gB1_s]
  -- the new entry's end
  have hnew : fnd k L = none → ∀ σ5 : gS, ext (fun x => x = t) 1 6 σ ω σ5 ω → oc κ σ5 ω t m (mpC (some a) ks (Int32.ofNat L.length) md (Int32.ofNat (n * 3 / 4)) (hd (L ++ [(σ.2.1, k, v)])) (some σ.2.1)) → oc κ σ5 ω t a (.inl (7, n, .inr (.inr (.inr (.inr (fun j => hb n j (L ++ [(σ.2.1, k, v)]))))))) → Ents κ B σ5 ω t n none (L ++ [(σ.2.1, k, v)]) → putE κ B σ ω t m k v L (f_J1_putVal_259 κ F (some m) 1 σ5) 2 70 := by
    intro hf σ5 e5 hm5 hT5 hE5
    have hnd5 := nodup_snoc (e := σ.2.1) (v := v) hnd hf
    have h32b : (L ++ [(σ.2.1, k, v)]).length ≤ 32 := by
      have := nodup32 hnd5 (by
        intro x hx
        obtain ⟨y, hy, rfl⟩ := List.mem_map.mp hx
        exact EnX_32 hE5 y hy)
      rwa [List.length_map] at this
    obtain ⟨σ6, r1, r2, r3⟩ := p_259 (L := L ++ [(σ.2.1, k, v)]) hF (by
      rw [show (L ++ [(σ.2.1, k, v)]).length - 1 = L.length by simp, lst_app]
      exact hm5) hT5 (mpK_mv hK e5 (fun e => ht0 e.symm)) ht0 hE5 hnd5 hn (fun b hb9 => hω b (by have := e5.1; omega)) (by simp) h32b (by rw [List.length_append]; simp; omega)
    refine ⟨σ6, L ++ [(σ.2.1, k, v)], ?_, ext_mono (ext_trans e5 r2) (fun _ h => h) (by omega) (by omega), r3, vls_app hf, ?_⟩
    · rw [r1]; simp [vls, hf]
    · rw [hf]; simp [kys]
  cases hh : hb n (k % n) L with
  | none =>
    have hf := fnd_none_of_hb rfl hh
    obtain ⟨σ1, r1, r2, r3, r4, r5⟩ := p_newNode (F := F) (v := v) hm hE hnd (hω _ (Nat.le_refl _)) hk (fun y => rfl)
    have hT1 := r5 _ _ hT
    rw [if_pos rfl, mp_ck hm.1, gB1_s, r1, gB2_s]
    have hz : oc κ σ1 ω t σ.2.1 (enX B (hb n (k % n) []) (prv none L) (σ.2.1, k, v) []) := ((EnX_snoc L none).mp r4).2.1
    rw [oc_sR hT1 (by decide) hn2 (by omega) (v := some σ.2.1) (gok7 hz.1), gB1_s]
    have hfun : va_up (fun j => hb n j L) (k % n) (some σ.2.1) = fun j => hb n j (L ++ [(σ.2.1, k, v)]) := by
      funext j
      unfold va_up
      rw [hb_app, hb_cons]
      by_cases h : j = k % n
      · rw [if_pos h, h, hh, if_pos rfl]; rfl
      · rw [if_neg h, if_neg (fun e => h e.symm)]
        show hb n j L = (hb n j L).or none
        cases hb n j L <;> rfl
    rw [hfun]
    have hma : m ≠ a := oc_ne r3 hT1 (by simp [mpC])
    refine hnew hf _ (ext_mono (ext_trans r2 (oc_ext_up hT1 _ (fun x => x = t) rfl)) (fun _ h => h) (by omega) (by omega)) (oc_up_ne r3 hma _) (oc_up hT1 _) (nxA_link (EnX_same _ none (fun y hy c hc => by
      obtain ⟨fs, hy1⟩ := EnX_oc r4 hy
      exact oc_up_ne hc (oc_ne hy1 hT1 (by simp)) _) r4) hh)
  | some e =>
    obtain ⟨A, x, C, hL, rfl, hxj, hA⟩ := hb_mem hh
    have hx := (EnX_iff _ _).mp hE A x C hL
    rw [if_neg (by simp), en_h hx.1.1, gB1_s]
    by_cases hxk : x.2.1 = k
    · rw [if_pos (congrArg Int32.ofNat hxk), en_k hx.1.1, gB1_s, if_pos (by rw [hxk]), f_J1_putVal_97]
      subst hL
      obtain ⟨σ', L', q1, q2, q3⟩ := p_found (F := F) (v := v) hm hT hK ht0 hE hnd hn hle hxk (fnd_none_of_hb rfl hA)
      exact ⟨σ', L', q1, ext_mono q2 (fun _ h => h) (by omega) (by omega), q3⟩
    · obtain ⟨f, rfl⟩ : ∃ f, F = f + 1 := ⟨F - 1, by omega⟩
      rw [if_neg (fun e => hxk ((i3_inj (by omega) (by omega)).mp e)), f_J1_putVal_104, en_io hx.1.1, gB1_s, if_pos rfl, f_J1_putVal_134, f_J1_putVal_134b, en_n hx.1.1, gB1_s]
      have hnxx : nxn n x C = hb n (k % n) C := by
        show hb n (x.2.1 % n) C = _
        rw [hxj]
      rw [hnxx]
      cases hC : hb n (k % n) C with
      | none =>
        have hf : fnd k L = none := by
          rw [fnd_none]
          intro y hy e
          rw [hL] at hy
          simp only [List.mem_append, List.mem_cons] at hy
          rcases hy with hy | hy | hy
          · exact hb_none.mp hA y hy (by rw [e])
          · exact hxk (by rw [← hy]; exact e)
          · exact hb_none.mp hC y hy (by rw [e])
        obtain ⟨σ1, r1, r2, r3, r4, r5⟩ := p_newNode (F := f + 1) (v := v) hm hE hnd (hω _ (Nat.le_refl _)) hk (fun y => rfl)
        have hnd5 := nodup_snoc (e := σ.2.1) (v := v) hnd hf
        obtain ⟨g1, g2⟩ := nxA_link2 r4 hnd5 hL hxj hC hA
        have hT1 := r5 _ _ hT
        rw [if_pos rfl, mp_ck hm.1, gB1_s, r1, gB2_s, g1, gB1_s, if_pos (by decide), f_J1_putVal_222, if_pos rfl]
        have hx1 : oc κ σ1 ω t x.1 _ := ((EnX_iff _ _).mp r4 A x (C ++ [(σ.2.1, k, v)]) (by rw [hL]; simp)).1
        refine hnew hf _ (ext_mono (ext_trans r2 (oc_ext_up hx1 _ (fun x => x = t) rfl)) (fun _ h => h) (by omega) (by omega)) (oc_up_ne r3 (oc_ne r3 hx1 (by simp [mpC, enX])) _) ?_ g2
        have hfun : (fun j => hb n j L) = fun j => hb n j (L ++ [(σ.2.1, k, v)]) := by
          funext j
          rw [hb_app, hb_cons]
          by_cases h : k % n = j
          · rw [if_pos h, ← h, hh]; rfl
          · rw [if_neg h]
            cases hb n j L <;> rfl
        rw [← hfun]
        exact oc_up_ne hT1 (oc_ne hT1 hx1 (by simp [enX])) _
      | some e2 =>
        obtain ⟨A2, x2, C2, hC2, rfl, hx2j, hA2⟩ := hb_mem hC
        have hL2 : L = (A ++ x :: A2) ++ x2 :: C2 := by rw [hL, hC2]; simp
        have hx2 := (EnX_iff _ _).mp hE _ x2 C2 hL2
        have hne : x2.2.1 ≠ x.2.1 := nodup_key hnd hL (Or.inr (by rw [hC2]; simp))
        have hx2k : x2.2.1 = k := bk2 hn hx.2 hx2.2 hk hxj hx2j (fun e => hne e.symm) hxk
        rw [if_neg (by simp), en_h hx2.1.1, gB1_s, if_pos (congrArg Int32.ofNat hx2k), en_k hx2.1.1, gB1_s, if_pos (by rw [hx2k])]
        have hA3 : fnd k (A ++ x :: A2) = none := by
          rw [fnd_none]
          intro y hy e
          simp only [List.mem_append, List.mem_cons] at hy
          rcases hy with hy | hy | hy
          · exact hb_none.mp hA y hy (by rw [e])
          · exact hxk (by rw [← hy]; exact e)
          · exact hb_none.mp hA2 y hy (by rw [e])
        clear hnew
        generalize A ++ x :: A2 = A3 at hL2 hA3
        subst hL2
        obtain ⟨σ', L', q1, q2, q3⟩ := p_found (F := f + 1) (v := v) hm hT hK ht0 hE hnd hn hle hx2k hA3
        exact ⟨σ', L', q1, ext_mono q2 (fun _ h => h) (by omega) (by omega), q3⟩
set_option maxHeartbeats 4000000 in
/-- HashMap.put -/
theorem p_put {κ : gK} {B : Nat → Nat} {F : Nat} {σ : gS} {ω : Nat → Nat} {t m k : Nat} {v : Option Nat} {L : List mE} (hF : 64 ≤ F) (hB : bdK κ B σ ω) (hL : LM κ B σ ω t m L) (ht0 : t ≠ 0) (hω : ∀ b, σ.2.1 ≤ b → ω b = t) (hk : k < 32) :
    putE κ B σ ω t m k v L (f_J1_put κ F (some m) (some (B k)) v σ) 3 86 := by
  obtain ⟨tb, ks, md, th, n, hm, hT, hK, hE, hnd, hn, hth, hth0⟩ := hL
  have hz : ¬ (Int32.ofNat n = 0) := by rcases hn with rfl | rfl | rfl <;> decide
  rw [f_J1_put, f_J1_put_0, p_hash (hB k hk).1 hk, gB2_s, mp_ck hm.1, gB1_s, f_J1_putVal, f_J1_putVal_0, mp_t hm.1, gB1_s]
  cases tb with
  | some a =>
    have hT : oc κ σ ω t a (.inl (7, n, .inr (.inr (.inr (.inr (fun j => hb n j L)))))) := hT
    obtain ⟨h1, h2⟩ := hth (by simp)
    subst h1
    rw [if_neg (by simp), gal_u, hT.1, gal9_s _ _ _ (by decide), gB1_s, if_neg hz]
    obtain ⟨σ', L', q1, q2, q3⟩ := p_put29 (v := v) hF hB hm hT hK ht0 hE hnd hn hω h2 hk
    rw [q1, gB2_s]
    exact ⟨σ', L', rfl, ext_mono q2 (fun _ h => h) (by omega) (by omega), q3⟩
  | none =>
    have hT : L = [] := hT
    subst hT
    obtain ⟨σ1, r1, r2, r3, r4⟩ := p_resize0 (F := F) hm (hth0 rfl) (hω _ (Nat.le_refl _))
    rw [if_pos rfl, f_J1_putVal_19, mp_ck hm.1, gB1_s, r1, gB2_s, gal_u, r4.1, gal9_s _ _ _ (by decide), gB1_s]
    obtain ⟨σ', L', q1, q2, q3⟩ := p_put29 (v := v) (L := []) hF (bdK_mv hB r2 (fun e => ht0 e.symm)) r3 r4 (mpK_mv hK r2 (fun e => ht0 e.symm)) ht0 trivial hnd (Or.inl rfl) (fun b hb9 => hω b (by have := r2.1; omega)) (by simp) hk
    rw [q1, gB2_s]
    exact ⟨σ', L', rfl, ext_mono (ext_trans r2 q2) (fun _ h => h) (by omega) (by omega), q3⟩
/-- HashSet.add -/
theorem p_add {κ : gK} {B : Nat → Nat} {F : Nat} {σ : gS} {ω : Nat → Nat} {t s m k : Nat} {L : List mE} (hF : 64 ≤ F) (hB : bdK κ B σ ω) (hs : σ.1 s = some (.inr (12, [.ref m]))) (hL : LM κ B σ ω t m L) (ht0 : t ≠ 0) (hω : ∀ b, σ.2.1 ≤ b → ω b = t) (hk : k < 32) :
    ∃ r σ' L', f_J27_add κ F (some s) (some (B k)) σ = some (r, σ') ∧ ext (fun x => x = t) 3 86 σ ω σ' ω ∧ LM κ B σ' ω t m L' ∧ (∀ j, vls L' j = if j = k then some (κ.2 3) else vls L j) ∧ kys L' = if (fnd k L).isSome then kys L else kys L ++ [k] := by
  obtain ⟨σ', L', q1, q2, q3⟩ := p_put (v := κ.2 3) hF hB hL ht0 hω hk
  have hck : gck σ (some m) 10 = some () := by
    obtain ⟨tb, ks, md, th, n, hm, -⟩ := hL
    exact mp_ck hm.1
  rw [f_J27_add, f_J27_add_0]
  simp only [gfR_u, hs, gcf_s, List.getElem?_cons_zero, gvR_ref, gB1_s, hck, q1, gB2_s, f_J27_add_19, gok_z0, gok_z1]
  by_cases h : (vls L k).elim none id = (none : Option Nat)
  · rw [if_pos h]; exact ⟨_, σ', L', rfl, q2, q3⟩
  · rw [if_neg h]; exact ⟨_, σ', L', rfl, q2, q3⟩
