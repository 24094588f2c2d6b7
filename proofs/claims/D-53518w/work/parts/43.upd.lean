/-! the row of entries under a change -/
theorem hb_app (n j : Nat) (A C : List mE) : hb n j (A ++ C) = (hb n j A).or (hb n j C) := by
  unfold hb
  rw [List.find?_append]
  cases A.find? (fun x => x.2.1 % n == j) <;> rfl
theorem hb_nil (n j : Nat) : hb n j [] = none := rfl
theorem hd_cons (x : mE) (L : List mE) : hd (x :: L) = some x.1 := rfl
theorem hd_app (A C : List mE) : hd (A ++ C) = (hd A).or (hd C) := by
  cases A <;> rfl
theorem lst_app (A : List mE) (x : mE) : lst (A ++ [x]) = some x.1 := by simp [lst]
theorem hb_none {n j : Nat} {L : List mE} : hb n j L = none ↔ ∀ x ∈ L, x.2.1 % n ≠ j := by
  unfold hb
  rw [Option.map_eq_none_iff, List.find?_eq_none]
  constructor
  · intro h x hx e
    exact h x hx (by simp [e])
  · intro h x hx e
    exact h x hx (by simpa using e)
theorem hb_mem {n j e : Nat} {L : List mE} (h : hb n j L = some e) : ∃ A x C, L = A ++ x :: C ∧ x.1 = e ∧ x.2.1 % n = j ∧ hb n j A = none := by
  induction L with
  | nil => cases h
  | cons y L ih =>
    rw [hb_cons] at h
    by_cases hy : y.2.1 % n = j
    · rw [if_pos hy] at h
      cases h
      exact ⟨[], y, L, rfl, rfl, hy, rfl⟩
    · rw [if_neg hy] at h
      obtain ⟨A, x, C, h1, h2, h3, h4⟩ := ih h
      exact ⟨y :: A, x, C, by rw [h1]; rfl, h2, h3, by rw [hb_cons, if_neg hy]; exact h4⟩
theorem fnd_none {k : Nat} {L : List mE} : fnd k L = none ↔ ∀ x ∈ L, x.2.1 ≠ k := by
  unfold fnd
  rw [List.find?_eq_none]
  constructor
  · intro h x hx e
    exact h x hx (by simp [e])
  · intro h x hx e
    exact h x hx (by simpa using e)
theorem fnd_split {k : Nat} {L : List mE} {x : mE} (h : fnd k L = some x) : ∃ A C, L = A ++ x :: C ∧ x.2.1 = k ∧ fnd k A = none := by
  induction L with
  | nil => cases h
  | cons y L ih =>
    rw [fnd_cons] at h
    by_cases hy : y.2.1 = k
    · rw [if_pos hy] at h
      cases h
      exact ⟨[], L, rfl, hy, rfl⟩
    · rw [if_neg hy] at h
      obtain ⟨A, C, h1, h2, h3⟩ := ih h
      exact ⟨y :: A, C, by rw [h1]; rfl, h2, by rw [fnd_cons, if_neg hy]; exact h3⟩
/-- two elements at one address have one key -/
theorem EnX_inj {κ : gK} {B : Nat → Nat} {σ : gS} {ω : Nat → Nat} {t : Nat} {nx : mE → List mE → Option Nat} {pre : Option Nat} {L : List mE} (h : EnX κ B σ ω t nx pre L) {x y : mE} (hx : x ∈ L) (hy : y ∈ L) (he : x.1 = y.1) : x.2.1 = y.2.1 := by
  obtain ⟨A, C, rfl⟩ := List.append_of_mem hx
  obtain ⟨A', C', h2⟩ := List.append_of_mem hy
  have h1 := (EnX_iff _ _).mp h A x C rfl
  have h3 := (EnX_iff _ _).mp h A' y C' h2
  have h4 := h1.1.1
  rw [he, h3.1.1] at h4
  simp only [enX, Option.some.injEq, Sum.inr.injEq, Prod.mk.injEq, List.cons.injEq, true_and, Value.int.injEq] at h4
  exact ((i3_inj (by omega) (by omega)).mp h4.1).symm
/-- keys without repetition: an element is known by its key -/
theorem key_split {L A C A' C' : List mE} {x y : mE} (hn : (L.map (fun x => x.2.1)).Nodup) (h : L = A ++ x :: C) (h' : L = A' ++ y :: C') (hk : x.2.1 = y.2.1) : A = A' ∧ x = y ∧ C = C' := by
  induction A generalizing L A' with
  | nil =>
    cases A' with
    | nil =>
      rw [h] at h'
      simp only [List.nil_append, List.cons.injEq] at h'
      exact ⟨rfl, h'.1, h'.2⟩
    | cons z A' =>
      rw [h] at h'
      simp only [List.nil_append, List.cons_append, List.cons.injEq] at h'
      obtain ⟨rfl, rfl⟩ := h'
      subst h
      simp only [List.nil_append, List.map_cons, List.map_append, List.nodup_cons, List.mem_append, List.mem_cons] at hn
      exact absurd (Or.inr (Or.inl hk)) hn.1
  | cons z A ih =>
    cases A' with
    | nil =>
      rw [h] at h'
      simp only [List.nil_append, List.cons_append, List.cons.injEq] at h'
      obtain ⟨rfl, rfl⟩ := h'
      subst h
      simp only [List.cons_append, List.map_cons, List.map_append, List.nodup_cons, List.mem_append, List.mem_cons] at hn
      exact absurd (Or.inr (Or.inl hk.symm)) hn.1
    | cons z' A' =>
      rw [h] at h'
      simp only [List.cons_append, List.cons.injEq] at h'
      obtain ⟨rfl, h'⟩ := h'
      subst h
      simp only [List.cons_append, List.map_cons, List.nodup_cons] at hn
      obtain ⟨rfl, h2, h3⟩ := ih hn.2 rfl h'
      exact ⟨rfl, h2, h3⟩
theorem EnX_same {κ : gK} {B : Nat → Nat} {σ σ1 : gS} {ω ω1 : Nat → Nat} {t : Nat} {nx : mE → List mE → Option Nat} : ∀ (L : List mE) (pre : Option Nat), (∀ y ∈ L, ∀ c, oc κ σ ω t y.1 c → oc κ σ1 ω1 t y.1 c) → EnX κ B σ ω t nx pre L → EnX κ B σ1 ω1 t nx pre L
  | [], _, _, _ => trivial
  | x :: L, _, hs, h => ⟨hs x List.mem_cons_self _ h.1, h.2.1, EnX_same L _ (fun y hy => hs y (List.mem_cons_of_mem _ hy)) h.2.2⟩
theorem EnX_oc {κ : gK} {B : Nat → Nat} {σ : gS} {ω : Nat → Nat} {t : Nat} {nx : mE → List mE → Option Nat} {pre : Option Nat} {L : List mE} (h : EnX κ B σ ω t nx pre L) {y : mE} (hy : y ∈ L) : ∃ fs, oc κ σ ω t y.1 (.inr (11, fs)) := by
  obtain ⟨A, C, rfl⟩ := List.append_of_mem hy
  exact ⟨_, ((EnX_iff _ _).mp h A y C rfl).1⟩
theorem prv_snoc (pre : Option Nat) (A : List mE) (w : mE) : prv pre (A ++ [w]) = some w.1 := by
  unfold prv
  rw [List.getLast?_append]
  rfl
theorem snoc_cases {α : Type} (L : List α) : L = [] ∨ ∃ A w, L = A ++ [w] := by
  rcases List.eq_nil_or_concat L with h | ⟨A, w, h⟩
  · exact Or.inl h
  · exact Or.inr ⟨A, w, by rw [h, List.concat_eq_append]⟩
theorem snoc_split {α : Type} {z y : α} : ∀ {A A1 C1 : List α}, A ++ [z] = A1 ++ y :: C1 → (C1 = [] ∧ A = A1 ∧ z = y) ∨ ∃ C, C1 = C ++ [z] ∧ A = A1 ++ y :: C
  | [], [], C1, h => by
    simp only [List.nil_append, List.cons.injEq] at h
    exact Or.inl ⟨h.2.symm, rfl, h.1⟩
  | [], b :: A1, C1, h => by
    simp only [List.nil_append, List.cons_append, List.cons.injEq] at h
    have := congrArg List.length h.2
    simp at this
  | a :: A, [], C1, h => by
    simp only [List.nil_append, List.cons_append, List.cons.injEq] at h
    exact Or.inr ⟨A, h.2.symm, by rw [h.1]; rfl⟩
  | a :: A, b :: A1, C1, h => by
    simp only [List.cons_append, List.cons.injEq] at h
    obtain ⟨rfl, h⟩ := h
    rcases snoc_split h with ⟨h1, h2, h3⟩ | ⟨C, h1, h2⟩
    · exact Or.inl ⟨h1, by rw [h2], h3⟩
    · exact Or.inr ⟨C, h1, by rw [h2]; rfl⟩
theorem EnX_snoc {κ : gK} {B : Nat → Nat} {σ : gS} {ω : Nat → Nat} {t : Nat} {nx : mE → List mE → Option Nat} {z : mE} (A : List mE) (pre : Option Nat) : EnX κ B σ ω t nx pre (A ++ [z]) ↔ (∀ A1 y C1, A = A1 ++ y :: C1 → oc κ σ ω t y.1 (enX B (nx y (C1 ++ [z])) (prv pre A1) y (C1 ++ [z])) ∧ y.2.1 < 32) ∧ oc κ σ ω t z.1 (enX B (nx z []) (prv pre A) z []) ∧ z.2.1 < 32 := by
  constructor
  · intro h
    have h := (EnX_iff _ _).mp h
    exact ⟨fun A1 y C1 e => h A1 y (C1 ++ [z]) (by rw [e]; simp), h A z [] rfl⟩
  · rintro ⟨h1, h2⟩
    refine (EnX_iff _ _).mpr fun A1 y C1 e => ?_
    rcases snoc_split e with ⟨rfl, rfl, rfl⟩ | ⟨C, rfl, h⟩
    · exact h2
    · exact h1 A1 y C h
set_option maxHeartbeats 4000000 in
theorem p_newNode {κ : gK} {B : Nat → Nat} {F : Nat} {σ : gS} {ω : Nat → Nat} {t m k : Nat} {v : Option Nat} {L : List mE} {tb ks : Option Nat} {z md th : Int32} {nx : mE → List mE → Option Nat} (hm : oc κ σ ω t m (mpC tb ks z md th (hd L) (lst L))) (hE : EnX κ B σ ω t nx none L) (hnd : (L.map (fun x => x.2.1)).Nodup) (hω : ω σ.2.1 = t) (hk : k < 32) (hnx : ∀ y, nx y [] = none) :
    ∃ σ', f_J2_newNode κ F (some m) (Int32.ofNat k) (some (B k)) v none σ = some (some σ.2.1, σ') ∧ ext (fun x => x = t) 1 6 σ ω σ' ω ∧ oc κ σ' ω t m (mpC tb ks z md th (hd (L ++ [(σ.2.1, k, v)])) (some σ.2.1)) ∧ EnX κ B σ' ω t (fun y Ly => nx y Ly.dropLast) none (L ++ [(σ.2.1, k, v)]) ∧ (∀ a q, oc κ σ ω t a (.inl q) → oc κ σ' ω t a (.inl q)) := by
  have hm1 := hm.1
  have hme : m ≠ σ.2.1 := by have := hm.2.1; omega
  have hem : σ.2.1 ≠ m := fun e => hme e.symm
  have hbm := hm.2.2.2
  have hbe : κ.1 ≤ σ.2.1 := by have := hm.2.1; omega
  rcases snoc_cases L with rfl | ⟨A, w, rfl⟩
  · refine ⟨_, (by simp only [f_J2_newNode, f_J2_newNode_0, gnw, g0_J19, gB2_s, gsm_s, gB1_s, f_J19_init, f_J19_init_0, f_J18_init, f_J18_init_0, gpf_u, gpush_at, gup_at, gup_ne hme, gup_ne hem, gpush_ne hme, gpf9_s, hbe, hbm, gck_u, hm1, mpC, gcc9_s, f_J2_linkNodeAtEnd, f_J2_linkNodeAtEnd_0, f_J2_linkNodeAtEnd_75, gfI_u, gfR_u, gcf_s, gvI_int, gvR_rf, List.set_cons_zero, List.set_cons_succ, List.getElem?_cons_zero, List.getElem?_cons_succ, List.length_cons, List.length_nil, Nat.reduceAdd, Nat.reduceLT, if_true, List.nil_append, show lst ([] : List mE) = none from rfl, show ((0 : Int32) = 1) = False from by decide, if_false]; rfl), ?_, ?_, ?_, ?_⟩
    · refine ext_gup (fun _ => hm.2.2.1) (ext_gup (fun _ => hm.2.2.1) ?_)
      repeat refine ext_gup (fun h => absurd h (Nat.lt_irrefl _)) ?_
      exact ext_push _ _ _ _ _
    · exact ⟨gup_at _ _ _, Nat.lt_succ_of_lt hm.2.1, hm.2.2.1, hbm⟩
    · refine ⟨⟨?_, Nat.lt_succ_self _, hω, hbe⟩, hk, trivial⟩
      show _ = some (enX B (nx (σ.2.1, k, v) []) none (σ.2.1, k, v) [])
      rw [hnx (σ.2.1, k, v)]
      simp only [gup_ne hem, gup_at]
      rfl
    · intro a q ha
      have h1 : a ≠ m := oc_ne ha hm (by simp [mpC])
      have h2 : a ≠ σ.2.1 := by have := ha.2.1; omega
      exact ⟨by simp only [gup_ne h1, gup_ne h2, gpush_ne h2]; exact ha.1, Nat.lt_succ_of_lt ha.2.1, ha.2.2.1, ha.2.2.2⟩
  · obtain ⟨hA, hw, hw32⟩ := (EnX_snoc A none).mp hE
    have hw1 := hw.1
    have hbw := hw.2.2.2
    have hwe : w.1 ≠ σ.2.1 := by have := hw.2.1; omega
    have hew : σ.2.1 ≠ w.1 := fun e => hwe e.symm
    have hwm : w.1 ≠ m := oc_ne hw hm (by simp [mpC, enX])
    have hmw : m ≠ w.1 := fun e => hwm e.symm
    refine ⟨_, (by simp only [f_J2_newNode, f_J2_newNode_0, gnw, g0_J19, gB2_s, gsm_s, gB1_s, f_J19_init, f_J19_init_0, f_J18_init, f_J18_init_0, gpf_u, gpush_at, gup_at, gup_ne hme, gup_ne hem, gpush_ne hme, gpf9_s, hbe, hbm, gck_u, hm1, mpC, gcc9_s, f_J2_linkNodeAtEnd, f_J2_linkNodeAtEnd_0, f_J2_linkNodeAtEnd_75, gfI_u, gfR_u, gcf_s, gvI_int, gvR_rf, List.set_cons_zero, List.set_cons_succ, List.getElem?_cons_zero, List.getElem?_cons_succ, List.length_cons, List.length_nil, Nat.reduceAdd, Nat.reduceLT, if_true, show ((0 : Int32) = 1) = False from by decide, if_false, gup_ne hwe, gup_ne hew, gup_ne hwm, gup_ne hmw, gpush_ne hwe, hw1, hbw, enX, lst_app, reduceCtorEq]; rfl), ?_, ?_, ?_, ?_⟩
    · refine ext_gup (fun _ => hw.2.2.1) (ext_gup (fun h => absurd h (Nat.lt_irrefl _)) (ext_gup (fun _ => hm.2.2.1) ?_))
      repeat refine ext_gup (fun h => absurd h (Nat.lt_irrefl _)) ?_
      exact ext_push _ _ _ _ _
    · refine ⟨?_, Nat.lt_succ_of_lt hm.2.1, hm.2.2.1, hbm⟩
      simp only [gup_ne hmw, gup_ne hme, gup_at]
      rw [hd_app]
      cases A <;> rfl
    · refine (EnX_snoc (A ++ [w]) none).mpr ⟨fun A1 y C1 e => ?_, ?_, hk⟩
      · show oc _ _ _ _ _ (enX B (nx y (C1 ++ [(σ.2.1, k, v)]).dropLast) _ _ _) ∧ _
        rw [List.dropLast_concat]
        rcases snoc_split e with ⟨rfl, rfl, rfl⟩ | ⟨C, rfl, h⟩
        · refine ⟨⟨?_, Nat.lt_succ_of_lt hw.2.1, hw.2.2.1, hbw⟩, hw32⟩
          simp only [gup_at]
          rfl
        · obtain ⟨h1, h2⟩ := hA A1 y C h
          have hyw : y.1 ≠ w.1 := fun e2 => by
            have h3 := EnX_inj hE (x := y) (y := w) (by rw [h]; simp) (by simp) e2
            rw [h] at hnd
            simp only [List.append_assoc, List.cons_append, List.map_append, List.map_cons, List.map_nil, List.nodup_append, List.nodup_cons, List.mem_append, List.mem_cons] at hnd
            exact hnd.2.1.1 (Or.inr (by simp [h3]))
          have hye : y.1 ≠ σ.2.1 := by have := h1.2.1; omega
          have hym : y.1 ≠ m := oc_ne h1 hm (by simp [mpC, enX])
          refine ⟨⟨?_, Nat.lt_succ_of_lt h1.2.1, h1.2.2.1, h1.2.2.2⟩, h2⟩
          simp only [gup_ne hyw, gup_ne hye, gup_ne hym, gpush_ne hye]
          rw [h1.1]
          simp only [enX, hd_app]
          cases C <;> rfl
      · refine ⟨?_, Nat.lt_succ_self _, hω, hbe⟩
        show _ = some (enX B (nx (σ.2.1, k, v) []) (prv none (A ++ [w])) (σ.2.1, k, v) [])
        rw [hnx (σ.2.1, k, v), prv_snoc]
        simp only [gup_ne hew, gup_ne hem, gup_at]
        rfl
    · intro a q ha
      have h1 : a ≠ m := oc_ne ha hm (by simp [mpC])
      have h2 : a ≠ σ.2.1 := by have := ha.2.1; omega
      have h3 : a ≠ w.1 := oc_ne ha hw (by simp [enX])
      exact ⟨by simp only [gup_ne h1, gup_ne h2, gup_ne h3, gpush_ne h2]; exact ha.1, Nat.lt_succ_of_lt ha.2.1, ha.2.2.1, ha.2.2.2⟩
