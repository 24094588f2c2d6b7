theorem EnX_congr {κ : gK} {B : Nat → Nat} {σ : gS} {ω : Nat → Nat} {t : Nat} {nx nx' : mE → List mE → Option Nat} {pre : Option Nat} {L : List mE} (h : EnX κ B σ ω t nx pre L) (hc : ∀ A x C, L = A ++ x :: C → nx x C = nx' x C) : EnX κ B σ ω t nx' pre L :=
  (EnX_iff _ _).mpr fun A x C e => by rw [← hc A x C e]; exact (EnX_iff _ _).mp h A x C e
theorem nodup_key {L A C : List mE} {x y : mE} (hn : (L.map (fun x => x.2.1)).Nodup) (h : L = A ++ x :: C) (hy : y ∈ A ∨ y ∈ C) : y.2.1 ≠ x.2.1 := by
  subst h
  intro e
  simp only [List.map_append, List.map_cons, List.nodup_append, List.nodup_cons, List.mem_map, List.mem_cons] at hn
  rcases hy with hy | hy
  · exact hn.2.2 _ ⟨y, hy, rfl⟩ _ (Or.inl rfl) e
  · exact hn.2.1.1 ⟨y, hy, e⟩
/-- the successor of one entry is written -/
theorem EnX_setn {κ : gK} {B : Nat → Nat} {σ : gS} {ω : Nat → Nat} {t : Nat} {nx : mE → List mE → Option Nat} {pre : Option Nat} {L A C : List mE} {x : mE} (h : EnX κ B σ ω t nx pre L) (hn : (L.map (fun x => x.2.1)).Nodup) (hL : L = A ++ x :: C) (w : Option Nat) :
    gpf κ σ (some x.1) 11 3 (va_rf w) = some (gup σ x.1 (enX B w (prv pre A) x C)) ∧ EnX κ B (gup σ x.1 (enX B w (prv pre A) x C)) ω t (fun y Ly => if y.2.1 = x.2.1 then w else nx y Ly) pre L := by
  have hx := ((EnX_iff _ _).mp h A x C hL).1
  refine ⟨oc_pf hx (by simp) _, (EnX_iff _ _).mpr fun A1 y C1 e => ?_⟩
  have hy := (EnX_iff _ _).mp h A1 y C1 e
  by_cases hk : y.2.1 = x.2.1
  · obtain ⟨rfl, rfl, rfl⟩ := key_split hn e hL hk
    rw [if_pos rfl]
    exact ⟨oc_up hx _, hy.2⟩
  · rw [if_neg hk]
    exact ⟨oc_up_ne hy.1 (fun e2 => hk (EnX_inj h (by rw [e]; simp) (by rw [hL]; simp) e2)) _, hy.2⟩
/-- the value of one entry is written -/
theorem EnX_setv {κ : gK} {B : Nat → Nat} {σ : gS} {ω : Nat → Nat} {t n : Nat} {pre : Option Nat} {L A C : List mE} {x : mE} (h : Ents κ B σ ω t n pre L) (hn : (L.map (fun x => x.2.1)).Nodup) (hL : L = A ++ x :: C) (v : Option Nat) :
    gpf κ σ (some x.1) 11 2 (va_rf v) = some (gup σ x.1 (enX B (hb n (x.2.1 % n) C) (prv pre A) (x.1, x.2.1, v) C)) ∧ Ents κ B (gup σ x.1 (enX B (hb n (x.2.1 % n) C) (prv pre A) (x.1, x.2.1, v) C)) ω t n pre (A ++ (x.1, x.2.1, v) :: C) := by
  subst hL
  have hx := ((EnX_iff _ _).mp h A x C rfl).1
  refine ⟨oc_pf hx (by simp) _, ?_⟩
  have hxA : ∀ y ∈ A, y.1 ≠ x.1 := fun y hy e => nodup_key hn rfl (Or.inl hy) (EnX_inj h (by simp [hy]) (by simp) e)
  have hxC : ∀ y ∈ C, y.1 ≠ x.1 := fun y hy e => nodup_key hn rfl (Or.inr hy) (EnX_inj h (by simp [hy]) (by simp) e)
  clear hn
  induction A generalizing pre with
  | nil => exact ⟨oc_up hx _, h.2.1, EnX_same C _ (fun y hy c hc => oc_up_ne hc (hxC y hy) _) h.2.2⟩
  | cons y A ih =>
    have h1 := oc_up_ne h.1 (hxA y List.mem_cons_self) (enX B (hb n (x.2.1 % n) C) (prv pre (y :: A)) (x.1, x.2.1, v) C)
    refine ⟨?_, h.2.1, ?_⟩
    · have e1 : nxn n y (A ++ (x.1, x.2.1, v) :: C) = nxn n y (A ++ x :: C) := by
        simp only [nxn, hb_app, hb_cons]
      have e2 : hd (A ++ (x.1, x.2.1, v) :: C) = hd (A ++ x :: C) := by simp only [hd_app, hd_cons]
      show oc κ _ ω t y.1 (enX B (nxn n y (A ++ (x.1, x.2.1, v) :: C)) pre y (A ++ (x.1, x.2.1, v) :: C))
      rw [e1]
      unfold enX at h1 ⊢
      rw [e2]
      exact h1
    · rw [prv_cons] at hx ⊢
      exact ih h.2.2 hx (fun y hy => hxA y (List.mem_cons_of_mem _ hy))
theorem hb_congr {n j : Nat} {A C : List mE} {x : mE} {v : Option Nat} : hb n j (A ++ (x.1, x.2.1, v) :: C) = hb n j (A ++ x :: C) := by simp only [hb_app, hb_cons]
theorem hd_congr {A C : List mE} {x : mE} {v : Option Nat} : hd (A ++ (x.1, x.2.1, v) :: C) = hd (A ++ x :: C) := by simp only [hd_app, hd_cons]
theorem lst_congr {A C : List mE} {x : mE} {v : Option Nat} : lst (A ++ (x.1, x.2.1, v) :: C) = lst (A ++ x :: C) := by
  rcases snoc_cases C with rfl | ⟨C, w, rfl⟩
  · rw [lst_app, lst_app]
  · rw [show A ++ (x.1, x.2.1, v) :: (C ++ [w]) = (A ++ (x.1, x.2.1, v) :: C) ++ [w] by simp, show A ++ x :: (C ++ [w]) = (A ++ x :: C) ++ [w] by simp, lst_app, lst_app]
/-- a bucket holds two keys at most -/
theorem bk2 {n a b c : Nat} (hn : n = 16 ∨ n = 32 ∨ n = 64) (ha : a < 32) (hb : b < 32) (hc : c < 32) (h1 : a % n = c % n) (h2 : b % n = c % n) (hab : a ≠ b) (hac : a ≠ c) : b = c := by
  rcases hn with rfl | rfl | rfl <;> omega
/-- putVal where the entry is found -/
theorem p_put222 {κ : gK} {B : Nat → Nat} {F : Nat} {σ : gS} {ω : Nat → Nat} {t m n : Nat} {v : Option Nat} {A C : List mE} {x : mE} {tb ks : Option Nat} {z md th : Int32} {h l : Option Nat} (hm : oc κ σ ω t m (mpC tb ks z md th h l)) (hE : Ents κ B σ ω t n none (A ++ x :: C)) (hn : ((A ++ x :: C).map (fun x => x.2.1)).Nodup) :
    f_J1_putVal_222 κ F (some m) v 0 1 (some x.1) σ = some (x.2.2, gup σ x.1 (enX B (hb n (x.2.1 % n) C) (prv none A) (x.1, x.2.1, v) C)) := by
  have hx := ((EnX_iff _ _).mp hE A x C rfl).1
  have hxm : m ≠ x.1 := oc_ne hm hx (by simp [mpC, enX])
  have hm1 := hm.1
  have hg := (EnX_setv hE hn rfl v).1
  simp only [f_J1_putVal_222, reduceCtorEq, if_false, en_v hx.1, gB1_s, if_true, f_J1_putVal_244, hg, f_J1_putVal_250, gck_u, gup_ne hxm, hm1, mpC, gcc9_s, f_J2_afterNodeAccess, f_J2_afterNodeAccess_0, f_J2_afterNodeAccess_141, f_J2_afterNodeAccess_265, gfI_u, gcf_s, List.getElem?_cons_zero, List.getElem?_cons_succ, gvI_int, show ((0 : Int32) = 2) = False from by decide, show ((0 : Int32) = 1) = False from by decide, gB2_s]
