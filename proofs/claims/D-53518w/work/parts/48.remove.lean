/-! removal -/
def EnT (κ : gK) (B : Nat → Nat) (σ : gS) (ω : Nat → Nat) (t : Nat) (nx : mE → List mE → Option Nat) (tl : List mE) : Option Nat → List mE → Prop
  | _, [] => True
  | pre, x :: L => oc κ σ ω t x.1 (enX B (nx x (L ++ tl)) pre x (L ++ tl)) ∧ x.2.1 < 32 ∧ EnT κ B σ ω t nx tl (some x.1) L
theorem EnX_append {κ : gK} {B : Nat → Nat} {σ : gS} {ω : Nat → Nat} {t : Nat} {nx : mE → List mE → Option Nat} {C : List mE} : ∀ (A : List mE) (pre : Option Nat), EnX κ B σ ω t nx pre (A ++ C) ↔ EnT κ B σ ω t nx C pre A ∧ EnX κ B σ ω t nx (prv pre A) C
  | [], pre => ⟨fun h => ⟨trivial, h⟩, fun h => h.2⟩
  | x :: A, pre => by
    rw [prv_cons]
    constructor
    · rintro ⟨h1, h2, h3⟩
      obtain ⟨h4, h5⟩ := (EnX_append A (some x.1)).mp h3
      exact ⟨⟨h1, h2, h4⟩, h5⟩
    · rintro ⟨⟨h1, h2, h3⟩, h4⟩
      exact ⟨h1, h2, (EnX_append A (some x.1)).mpr ⟨h3, h4⟩⟩
theorem EnT_same {κ : gK} {B : Nat → Nat} {σ σ1 : gS} {ω ω1 : Nat → Nat} {t : Nat} {nx : mE → List mE → Option Nat} {tl : List mE} : ∀ (L : List mE) (pre : Option Nat), (∀ y ∈ L, ∀ c, oc κ σ ω t y.1 c → oc κ σ1 ω1 t y.1 c) → EnT κ B σ ω t nx tl pre L → EnT κ B σ1 ω1 t nx tl pre L
  | [], _, _, _ => trivial
  | x :: L, _, hs, h => ⟨hs x List.mem_cons_self _ h.1, h.2.1, EnT_same L _ (fun y hy => hs y (List.mem_cons_of_mem _ hy)) h.2.2⟩
theorem EnT_oc {κ : gK} {B : Nat → Nat} {σ : gS} {ω : Nat → Nat} {t : Nat} {nx : mE → List mE → Option Nat} {tl : List mE} : ∀ (L : List mE) (pre : Option Nat), EnT κ B σ ω t nx tl pre L → ∀ y ∈ L, ∃ fs, oc κ σ ω t y.1 (.inr (11, fs))
  | x :: L, _, h, y, hy => by
    rcases List.mem_cons.mp hy with rfl | hy
    · exact ⟨_, h.1⟩
    · exact EnT_oc L _ h.2.2 y hy
/-- another end behind the row: where it has one element at least, only the last one's cell differs -/
theorem EnT_tl {κ : gK} {B : Nat → Nat} {σ : gS} {ω : Nat → Nat} {t : Nat} {nx nx' : mE → List mE → Option Nat} {tl tl' : List mE} {w : mE} {k : Nat} : ∀ (A : List mE) (pre : Option Nat), EnT κ B σ ω t nx tl pre (A ++ [w]) → (∀ y C1, fnd k C1 = none → nx y (C1 ++ tl) = nx' y (C1 ++ tl')) → (∀ y ∈ A, y.1 ≠ w.1) → (∀ y ∈ A ++ [w], y.2.1 ≠ k) →
    gpf κ σ (some w.1) 11 5 (va_rf (hd tl')) = some (gup σ w.1 (enX B (nx' w tl') (prv pre A) w tl')) ∧ EnT κ B (gup σ w.1 (enX B (nx' w tl') (prv pre A) w tl')) ω t nx' tl' pre (A ++ [w])
  | [], pre, h, hx, _, _ => by
    have h1 := h.1
    have e : nx w tl = nx' w tl' := hx w [] rfl
    refine ⟨?_, oc_up h1 _, h.2.1, trivial⟩
    rw [oc_pf h1 (by simp)]
    show some (gup σ w.1 (enX B (nx w tl) pre w tl')) = _
    rw [e]; rfl
  | y :: A, pre, h, hx, hn, hk => by
    rw [prv_cons]
    obtain ⟨h1, h2, h3⟩ := h
    obtain ⟨q1, q2⟩ := EnT_tl A (some y.1) h3 hx (fun z hz => hn z (List.mem_cons_of_mem _ hz)) (fun z hz => hk z (List.mem_cons_of_mem _ hz))
    refine ⟨q1, ?_, h2, q2⟩
    have e : hd (A ++ [w] ++ tl') = hd (A ++ [w] ++ tl) := by
      cases A <;> rfl
    have h4 := oc_up_ne h1 (hn y List.mem_cons_self) (enX B (nx' w tl') (prv (some y.1) A) w tl')
    show oc κ _ ω t y.1 (enX B (nx' y (A ++ [w] ++ tl')) pre y (A ++ [w] ++ tl'))
    rw [← hx y (A ++ [w]) (fnd_none.mpr fun z hz => hk z (List.mem_cons_of_mem _ hz))]
    unfold enX at h4 ⊢
    rw [e]
    exact h4
def rm (k : Nat) (L : List mE) : List mE := L.filter (fun x => x.2.1 != k)
theorem rm_none {k : Nat} {L : List mE} (h : fnd k L = none) : rm k L = L := by
  unfold rm
  rw [List.filter_eq_self]
  intro x hx
  simpa using fnd_none.mp h x hx
theorem rm_app (k : Nat) (A C : List mE) : rm k (A ++ C) = rm k A ++ rm k C := List.filter_append ..
theorem rm_hit {k : Nat} {x : mE} {C : List mE} (h : x.2.1 = k) : rm k (x :: C) = rm k C := by
  unfold rm
  rw [List.filter_cons_of_neg (by simp [h])]
theorem rm_miss {k : Nat} {x : mE} {C : List mE} (h : x.2.1 ≠ k) : rm k (x :: C) = x :: rm k C := by
  unfold rm
  rw [List.filter_cons_of_pos (by simp [h])]
theorem hb_rm {n j k : Nat} (h : k % n ≠ j) (L : List mE) : hb n j (rm k L) = hb n j L := by
  induction L with
  | nil => rfl
  | cons x L ih =>
    by_cases hx : x.2.1 = k
    · rw [rm_hit hx, hb_cons, if_neg (by rw [hx]; exact h)]
      exact ih
    · rw [rm_miss hx, hb_cons, hb_cons, ih]
def nxR (n k : Nat) : mE → List mE → Option Nat := fun y Ly => hb n (y.2.1 % n) (rm k Ly)
set_option maxHeartbeats 4000000 in
/-- behind the bucket: the counts and the order -/
theorem p_260 {κ : gK} {B : Nat → Nat} {F : Nat} {σ : gS} {ω : Nat → Nat} {t m n a k : Nat} {A C : List mE} {x : mE} {ks : Option Nat} {md : Int32} (hm : oc κ σ ω t m (mpC (some a) ks (Int32.ofNat (A ++ x :: C).length) md (Int32.ofNat (n * 3 / 4)) (hd (A ++ x :: C)) (lst (A ++ x :: C)))) (hT : oc κ σ ω t a (.inl (7, n, .inr (.inr (.inr (.inr (fun j => hb n j (A ++ C)))))))) (hK : mpK κ σ ω m ks) (ht0 : t ≠ 0) (hE : EnX κ B σ ω t (nxR n k) none (A ++ x :: C)) (hxk : x.2.1 = k) (hnd : ((A ++ x :: C).map (fun x => x.2.1)).Nodup) (hn : n = 16 ∨ n = 32 ∨ n = 64) (hle : (A ++ x :: C).length ≤ n * 3 / 4) :
    ∃ σ', f_J1_removeNode_260 κ F (some m) (some x.1) σ = some (some x.1, σ') ∧ ext (fun x => x = t) 0 0 σ ω σ' ω ∧ LM κ B σ' ω t m (A ++ C) ∧ gfR σ' (some x.1) 11 2 = some x.2.2 := by
  have hsz : Int32.ofNat (A ++ x :: C).length - (1 : Int32) = Int32.ofNat (A ++ C).length := by
    rw [show (1 : Int32) = Int32.ofNat 1 from rfl, i3_sub (by rw [List.length_append, List.length_cons]; omega)]
    simp only [List.length_append, List.length_cons]
    rfl
  have hkA : ∀ y ∈ A, y.2.1 ≠ k := fun y hy => by have := nodup_key hnd rfl (Or.inl hy); rwa [hxk] at this
  have hkC : ∀ y ∈ C, y.2.1 ≠ k := fun y hy => by have := nodup_key hnd rfl (Or.inr hy); rwa [hxk] at this
  have hxA : ∀ y ∈ A, y.1 ≠ x.1 := fun y hy e => nodup_key hnd rfl (Or.inl hy) (EnX_inj hE (by simp [hy]) (by simp) e)
  have hxC : ∀ y ∈ C, y.1 ≠ x.1 := fun y hy e => nodup_key hnd rfl (Or.inr hy) (EnX_inj hE (by simp [hy]) (by simp) e)
  have hAC : ∀ y ∈ A, ∀ z ∈ C, y.1 ≠ z.1 := fun y hy z hz e => by
    have h1 := EnX_inj hE (x := y) (y := z) (by simp [hy]) (by simp [hz]) e
    simp only [List.map_append, List.map_cons, List.nodup_append, List.mem_map, List.mem_cons] at hnd
    exact hnd.2.2 _ ⟨y, hy, rfl⟩ _ (Or.inr ⟨z, hz, rfl⟩) h1
  -- the two counts
  have g1 : gpf κ σ (some m) 10 3 (.int (md + 1)) = some (gup σ m (mpC (some a) ks (Int32.ofNat (A ++ x :: C).length) (md + 1) (Int32.ofNat (n * 3 / 4)) (hd (A ++ x :: C)) (lst (A ++ x :: C)))) := oc_pf hm (by simp) _
  have hm2 := oc_up hm (mpC (some a) ks (Int32.ofNat (A ++ x :: C).length) (md + 1) (Int32.ofNat (n * 3 / 4)) (hd (A ++ x :: C)) (lst (A ++ x :: C)))
  have g2 : gpf κ (gup σ m (mpC (some a) ks (Int32.ofNat (A ++ x :: C).length) (md + 1) (Int32.ofNat (n * 3 / 4)) (hd (A ++ x :: C)) (lst (A ++ x :: C)))) (some m) 10 2 (.int (Int32.ofNat (A ++ C).length)) = some (gup (gup σ m (mpC (some a) ks (Int32.ofNat (A ++ x :: C).length) (md + 1) (Int32.ofNat (n * 3 / 4)) (hd (A ++ x :: C)) (lst (A ++ x :: C)))) m (mpC (some a) ks (Int32.ofNat (A ++ C).length) (md + 1) (Int32.ofNat (n * 3 / 4)) (hd (A ++ x :: C)) (lst (A ++ x :: C)))) := oc_pf hm2 (by simp) _
  have hm3 := oc_up hm2 (mpC (some a) ks (Int32.ofNat (A ++ C).length) (md + 1) (Int32.ofNat (n * 3 / 4)) (hd (A ++ x :: C)) (lst (A ++ x :: C)))
  rw [f_J1_removeNode_260, mp_md hm.1, gB1_s, g1, gB1_s, mp_z hm2.1, gB1_s, hsz, g2, gB1_s, mp_ck hm3.1, gB1_s]
  have ham : a ≠ m := oc_ne hT hm (by simp [mpC])
  have hT3 := oc_up_ne (oc_up_ne hT ham (mpC (some a) ks (Int32.ofNat (A ++ x :: C).length) (md + 1) (Int32.ofNat (n * 3 / 4)) (hd (A ++ x :: C)) (lst (A ++ x :: C)))) ham (mpC (some a) ks (Int32.ofNat (A ++ C).length) (md + 1) (Int32.ofNat (n * 3 / 4)) (hd (A ++ x :: C)) (lst (A ++ x :: C)))
  have hE3 := EnX_same (σ1 := gup (gup σ m (mpC (some a) ks (Int32.ofNat (A ++ x :: C).length) (md + 1) (Int32.ofNat (n * 3 / 4)) (hd (A ++ x :: C)) (lst (A ++ x :: C)))) m (mpC (some a) ks (Int32.ofNat (A ++ C).length) (md + 1) (Int32.ofNat (n * 3 / 4)) (hd (A ++ x :: C)) (lst (A ++ x :: C)))) (ω1 := ω) (A ++ x :: C) none (fun y hy c hc => by
      obtain ⟨fs, hy1⟩ := EnX_oc hE hy
      exact oc_up_ne (oc_up_ne hc (oc_ne hy1 hm (by simp [mpC])) _) (oc_ne hy1 hm (by simp [mpC])) _) hE
  have he3 := ext_trans (oc_ext_up hm (mpC (some a) ks (Int32.ofNat (A ++ x :: C).length) (md + 1) (Int32.ofNat (n * 3 / 4)) (hd (A ++ x :: C)) (lst (A ++ x :: C))) (fun x => x = t) rfl) (oc_ext_up hm2 (mpC (some a) ks (Int32.ofNat (A ++ C).length) (md + 1) (Int32.ofNat (n * 3 / 4)) (hd (A ++ x :: C)) (lst (A ++ x :: C))) (fun x => x = t) rfl)
  generalize gup (gup σ m (mpC (some a) ks (Int32.ofNat (A ++ x :: C).length) (md + 1) (Int32.ofNat (n * 3 / 4)) (hd (A ++ x :: C)) (lst (A ++ x :: C)))) m (mpC (some a) ks (Int32.ofNat (A ++ C).length) (md + 1) (Int32.ofNat (n * 3 / 4)) (hd (A ++ x :: C)) (lst (A ++ x :: C))) = σ3 at hm3 hT3 hE3 he3
  -- the entry's own pointers
  obtain ⟨hA3, hx3, hx32, hC3⟩ := (EnX_append A none).mp hE3
  have g4 : gpf κ σ3 (some x.1) 11 5 (va_rf none) = some (gup σ3 x.1 (enX B (nxR n k x C) (prv none A) x [])) := oc_pf hx3 (by simp) _
  have hx4 := oc_up hx3 (enX B (nxR n k x C) (prv none A) x [])
  have g5 : gpf κ (gup σ3 x.1 (enX B (nxR n k x C) (prv none A) x [])) (some x.1) 11 4 (va_rf none) = some (gup (gup σ3 x.1 (enX B (nxR n k x C) (prv none A) x [])) x.1 (enX B (nxR n k x C) none x [])) := oc_pf hx4 (by simp) _
  have hx5 := oc_up hx4 (enX B (nxR n k x C) none x [])
  rw [f_J2_afterNodeRemoval, f_J2_afterNodeRemoval_0, gcc_u, hx3.1, show gcc9 (some (enX B (nxR n k x C) (prv none A) x C)) 11 = some () from gcc9_s _ _, gB1_s, en_b hx3.1, gB1_s, en_a hx3.1, gB1_s, g4, gB1_s, g5, gB1_s]
  have hmx : m ≠ x.1 := oc_ne hm3 hx3 (by simp [mpC, enX])
  have hax : a ≠ x.1 := oc_ne hT3 hx3 (by simp [enX])
  have hm5 := oc_up_ne (oc_up_ne hm3 hmx (enX B (nxR n k x C) (prv none A) x [])) hmx (enX B (nxR n k x C) none x [])
  have hT5 := oc_up_ne (oc_up_ne hT3 hax (enX B (nxR n k x C) (prv none A) x [])) hax (enX B (nxR n k x C) none x [])
  have hA5 := EnT_same (σ1 := gup (gup σ3 x.1 (enX B (nxR n k x C) (prv none A) x [])) x.1 (enX B (nxR n k x C) none x [])) (ω1 := ω) A none (fun y hy c hc => oc_up_ne (oc_up_ne hc (hxA y hy) _) (hxA y hy) _) hA3
  have hC5 := EnX_same (σ1 := gup (gup σ3 x.1 (enX B (nxR n k x C) (prv none A) x [])) x.1 (enX B (nxR n k x C) none x [])) (ω1 := ω) C (some x.1) (fun y hy c hc => oc_up_ne (oc_up_ne hc (hxC y hy) _) (hxC y hy) _) hC3
  have he5 := ext_trans he3 (ext_trans (oc_ext_up hx3 (enX B (nxR n k x C) (prv none A) x []) (fun x => x = t) rfl) (oc_ext_up hx4 (enX B (nxR n k x C) none x []) (fun x => x = t) rfl))
  clear hE3 g4 g5 hx4 hA3 hC3 g1 g2 hm2
  generalize gup (gup σ3 x.1 (enX B (nxR n k x C) (prv none A) x [])) x.1 (enX B (nxR n k x C) none x []) = σ5 at hm5 hT5 hA5 hC5 he5 hx5
  have hcC : ∀ σ' pre, EnX κ B σ' ω t (nxR n k) pre C → Ents κ B σ' ω t n pre C := fun σ' pre h => EnX_congr h fun A' y C' e => by
    show hb n (y.2.1 % n) (rm k C') = hb n (y.2.1 % n) C'
    rw [rm_none (fnd_none.mpr fun z hz => hkC z (by rw [e]; simp [hz]))]
  have hnx : ∀ (y : mE) (C1 : List mE), fnd k C1 = none → nxR n k y (C1 ++ x :: C) = nxn n y (C1 ++ C) := fun y C1 h => by
    show hb n (y.2.1 % n) (rm k (C1 ++ x :: C)) = hb n (y.2.1 % n) (C1 ++ C)
    rw [rm_app, rm_hit hxk, rm_none h, rm_none (fnd_none.mpr hkC)]
  have hpx : prv none A = lst A := by
    unfold prv lst
    cases A.getLast? <;> rfl
  have hfin : ∀ σ6 : gS, ext (fun x => x = t) 0 0 σ ω σ6 ω → oc κ σ6 ω t m (mpC (some a) ks (Int32.ofNat (A ++ C).length) (md + 1) (Int32.ofNat (n * 3 / 4)) (hd (A ++ C)) (lst (A ++ x :: C))) → oc κ σ6 ω t a (.inl (7, n, .inr (.inr (.inr (.inr (fun j => hb n j (A ++ C))))))) → EnT κ B σ6 ω t (nxn n) C none A → EnX κ B σ6 ω t (nxR n k) (some x.1) C → oc κ σ6 ω t x.1 (enX B (nxR n k x C) none x []) →
      ∃ σ', gB2 (f_J2_afterNodeRemoval_45 κ F (some m) (prv none A) (hd C) σ6) (fun v6 s5 => some (some x.1, s5)) = some (some x.1, σ') ∧ ext (fun x => x = t) 0 0 σ ω σ' ω ∧ LM κ B σ' ω t m (A ++ C) ∧ gfR σ' (some x.1) 11 2 = some x.2.2 := by
    intro σ6 e6 hm6 hT6 hA6 hC6 hx6
    have hnd2 : ((A ++ C).map (fun x => x.2.1)).Nodup := by
      refine List.Nodup.sublist ?_ hnd
      exact (List.Sublist.append_left (List.sublist_cons_self x C) A).map _
    have hle2 : (A ++ C).length ≤ n * 3 / 4 := by
      rw [List.length_append] at hle ⊢
      rw [List.length_cons] at hle
      omega
    rw [f_J2_afterNodeRemoval_45]
    cases C with
    | nil =>
      have g6 : gpf κ σ6 (some m) 10 9 (va_rf (prv none A)) = some (gup σ6 m (mpC (some a) ks (Int32.ofNat (A ++ []).length) (md + 1) (Int32.ofNat (n * 3 / 4)) (hd (A ++ [])) (prv none A))) := oc_pf hm6 (by simp) _
      rw [if_pos (show hd ([] : List mE) = none from rfl), g6, gB1_s, f_J2_afterNodeRemoval_64, gB2_s]
      have e7 := ext_trans e6 (oc_ext_up hm6 (mpC (some a) ks (Int32.ofNat (A ++ []).length) (md + 1) (Int32.ofNat (n * 3 / 4)) (hd (A ++ [])) (prv none A)) (fun x => x = t) rfl)
      refine ⟨_, rfl, e7, ⟨some a, ks, md + 1, _, n, ?_, oc_up_ne hT6 (oc_ne hT6 hm6 (by simp [mpC])) _, mpK_mv hK e7 (fun e => ht0 e.symm), ?_, hnd2, hn, fun _ => ⟨rfl, hle2⟩, fun e => by cases e⟩, ?_⟩
      · have := oc_up hm6 (mpC (some a) ks (Int32.ofNat (A ++ []).length) (md + 1) (Int32.ofNat (n * 3 / 4)) (hd (A ++ [])) (prv none A))
        rw [hpx] at this ⊢
        rw [show lst (A ++ []) = lst A by rw [List.append_nil]]
        exact this
      · refine (EnX_append A none).mpr ⟨EnT_same A none (fun y hy c hc => ?_) hA6, trivial⟩
        obtain ⟨fs, hy1⟩ := EnT_oc A none hA6 y hy
        exact oc_up_ne hc (oc_ne hy1 hm6 (by simp [mpC])) _
      · exact en_v (oc_up_ne hx6 (oc_ne hx6 hm6 (by simp [mpC, enX])) _).1
    | cons c C' =>
      obtain ⟨hc6, hc32, hC6'⟩ := hC6
      have g6 : gpf κ σ6 (some c.1) 11 4 (va_rf (prv none A)) = some (gup σ6 c.1 (enX B (nxR n k c C') (prv none A) c C')) := oc_pf hc6 (by simp) _
      rw [hd_cons, if_neg (by simp), g6, gB1_s, f_J2_afterNodeRemoval_64, gB2_s]
      have e7 := ext_trans e6 (oc_ext_up hc6 (enX B (nxR n k c C') (prv none A) c C') (fun x => x = t) rfl)
      have hcC' : ∀ y ∈ C', y.1 ≠ c.1 := fun y hy e => by
        have h1 := EnX_inj hE (x := y) (y := c) (by simp [hy]) (by simp) e
        simp only [List.map_append, List.map_cons, List.nodup_append, List.nodup_cons, List.mem_map] at hnd
        exact hnd.2.1.2.1 ⟨y, hy, h1⟩
      refine ⟨_, rfl, e7, ⟨some a, ks, md + 1, _, n, ?_, oc_up_ne hT6 (oc_ne hT6 hc6 (by simp [enX])) _, mpK_mv hK e7 (fun e => ht0 e.symm), ?_, hnd2, hn, fun _ => ⟨rfl, hle2⟩, fun e => by cases e⟩, ?_⟩
      · have := oc_up_ne hm6 (oc_ne hm6 hc6 (by simp [mpC, enX])) (enX B (nxR n k c C') (prv none A) c C')
        have el : lst (A ++ c :: C') = lst (A ++ x :: c :: C') := by
          unfold lst
          simp [List.getLast?_append, List.getLast?_cons]
        rw [el]
        exact this
      · refine (EnX_append A none).mpr ⟨EnT_same A none (fun y hy c9 hc => oc_up_ne hc (hAC y hy c List.mem_cons_self) _) hA6, hcC _ _ ?_⟩
        exact ⟨oc_up hc6 _, hc32, EnX_same C' (some c.1) (fun y hy c9 hc => oc_up_ne hc (hcC' y hy) _) hC6'⟩
      · exact en_v (oc_up_ne hx6 (fun e => hxC c List.mem_cons_self e.symm) _).1
  rcases snoc_cases A with rfl | ⟨A', w, rfl⟩
  · have g6 : gpf κ σ5 (some m) 10 8 (va_rf (hd C)) = some (gup σ5 m (mpC (some a) ks (Int32.ofNat ([] ++ C).length) (md + 1) (Int32.ofNat (n * 3 / 4)) (hd C) (lst ([] ++ x :: C)))) := oc_pf hm5 (by simp) _
    rw [show prv none ([] : List mE) = none from rfl, if_pos rfl, g6, gB1_s]
    refine hfin _ (ext_trans he5 (oc_ext_up hm5 _ (fun x => x = t) rfl)) (oc_up hm5 _) (oc_up_ne hT5 (oc_ne hT5 hm5 (by simp [mpC])) _) trivial (EnX_same C _ (fun y hy c hc => ?_) hC5) (oc_up_ne hx5 (oc_ne hx5 hm5 (by simp [mpC, enX])) _)
    obtain ⟨fs, hy1⟩ := EnX_oc hC5 hy
    exact oc_up_ne hc (oc_ne hy1 hm5 (by simp [mpC])) _
  · have hwA : ∀ y ∈ A', y.1 ≠ w.1 := fun y hy e => by
      have h1 := EnX_inj hE (x := y) (y := w) (by simp [hy]) (by simp) e
      simp only [List.append_assoc, List.cons_append, List.map_append, List.map_cons, List.nodup_append, List.mem_map, List.mem_cons] at hnd
      exact hnd.2.2 _ ⟨y, hy, rfl⟩ _ (Or.inl rfl) h1
    obtain ⟨g6, hA6⟩ := EnT_tl A' none hA5 hnx hwA hkA
    obtain ⟨fs, hw1⟩ := EnT_oc _ none hA5 w (by simp)
    rw [prv_snoc, if_neg (by simp), g6, gB1_s, ← prv_snoc none A' w]
    refine hfin _ (ext_trans he5 (oc_ext_up hw1 _ (fun x => x = t) rfl)) ?_ (oc_up_ne hT5 (oc_ne hT5 hw1 (by simp)) _) hA6 (EnX_same C _ (fun y hy c hc => oc_up_ne hc (fun e => hAC w (by simp) y hy e.symm) _) hC5) (oc_up_ne hx5 (fun e => hxA w (by simp) e.symm) _)
    have h1 := oc_up_ne hm5 (oc_ne hm5 hw1 (by simp [mpC])) (enX B (nxn n w C) (prv none A') w C)
    have el : hd (A' ++ [w] ++ x :: C) = hd (A' ++ [w] ++ C) := by cases A' <;> rfl
    rw [el] at h1
    exact h1
