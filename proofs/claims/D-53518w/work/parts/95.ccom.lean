/-! the component: commit -/
def setRt (A : aG) (r : Nat) (x : aRo) : aG := (A.1, va_up A.2.1 r x, A.2.2)
def setCL (A : aG) (x y : Int32) : aG := (A.1, A.2.1, A.2.2.1, A.2.2.2.1, x, y)
theorem GPg_cg2 {κ : gK} {B : Nat → Nat} {σ : gS} {ω : Nat → Nat} {t a : Nat} {A A' : aG} (h : GPg κ B σ ω t a A) (e : ∀ b, b < 32 → (aSt A' b = 0 ↔ aSt A b = 0) ∧ (aSt A b ≠ 0 → aPg A' b = aPg A b)) : GPg κ B σ ω t a A' := by
  obtain ⟨L, h1, h2⟩ := h
  refine ⟨L, h1, fun b hb => ?_⟩
  have h3 := h2 b hb
  obtain ⟨e1, e2⟩ := e b hb
  by_cases c : aSt A b = 0
  · rw [if_pos c] at h3; rw [if_pos (e1.mpr c)]; exact h3
  · rw [if_neg c] at h3; rw [if_neg (fun h => c (e1.mp h)), e2 c]; exact h3
section C
variable {κ : gK} {B : Nat → Nat} {bd : Nat} {F : Nat} {σ : gS} {ω : Nat → Nat} {t g : Nat} {c : gA} {A : aG}
/-- a bed is freed -/
theorem k_fred (ht : 0 < t) (h : GR κ B bd σ ω t g c A) {b : Nat} (hb : b < 32) (hs : aSt A b ≠ 0) (x : Int32) : ∃ S1 S2, gsR κ σ (some (c_st c)) (Int32.ofNat b) (κ.2 2) = some S1 ∧ gfR S1 (some g) 7 3 = some (some (c_fw c)) ∧ gsI κ S1 (some (c_fw c)) (Int32.ofNat b) x = some S2 ∧ ext (fun y => y = t + 4 ∨ y = t + 5) 0 0 σ ω S2 ω ∧ ext (fun y => y = t + 4) 0 0 σ ω S1 ω ∧ GR κ B bd S2 ω t g c (setB A b (2, aPg A b, x)) := by
  obtain ⟨S1, g1, e1, st1⟩ := k_setSt (κ := κ) h.2.1 hb (show 2 < 3 by decide)
  obtain ⟨q1, q2, q3, q4, q5, q6, q7⟩ := GR_k ht h e1
  obtain ⟨f, f1, f2⟩ := q3 (by omega)
  have s1 := oc_sI (v := x) f1 hb (by omega)
  have e2 := oc_ext_up f1 (.inl (0, 32, .inl (va_up f b x))) (fun y => y = t + 5) rfl
  have f3 := oc_up f1 (.inl (0, 32, .inl (va_up f b x)))
  have E1 : ext (fun y => y = t + 4 ∨ y = t + 5) 0 0 σ ω S1 ω := ext_mono e1 (fun _ h => Or.inl h) (Nat.le_refl _) (Nat.le_refl _)
  have E2 : ext (fun y => y = t + 4 ∨ y = t + 5) 0 0 S1 ω _ ω := ext_mono e2 (fun _ h => Or.inr h) (Nat.le_refl _) (Nat.le_refl _)
  have hA : ∀ b', (setB A b (2, aPg A b, x)).1 b' = if b' = b then (2, aPg A b, x) else A.1 b' := fun b' => rfl
  have hst : ∀ b', b' < 32 → aSt (setB A b (2, aPg A b, x)) b' = if b' = b then 2 else aSt A b' := fun b' _ => by
    unfold aSt; rw [hA]; by_cases e : b' = b
    · rw [if_pos e, if_pos e]
    · rw [if_neg e, if_neg e]
  refine ⟨S1, _, g1, m_f3 (q1 (by omega)), s1, ext_trans E1 E2, e1, ?_, GSt_mv (st1 _ hst) e2 (tk_n (by omega)), ⟨va_up f b x, f3, fun b' hb' => ?_⟩, GRt_cg (GRt_mv (q4 (by omega) (by omega) (by omega)) e2 (tk_n (by omega)) (tk_n (by omega)) (tk_n (by omega))) rfl, GRd_cg (GRd_mv (q5 (by omega)) e2 (tk_n (by omega)) (tk_0 ht)) rfl, GPg_cg2 (GPg_mv (q6 (by omega)) e2 (tk_n (by omega)) (tk_0 ht)) (fun b' hb' => ?_), GDr_cg (GDr_mv (q7 (by omega) (by omega) (by omega) (by omega)) e2 (tk_n (by omega)) (tk_n (by omega)) (tk_n (by omega)) (tk_n (by omega)) (tk_0 ht)) rfl, fun b' hb' => ?_⟩
  · rw [gCell_cg (A := A) (A' := setB A b (2, aPg A b, x)) rfl]; exact oc_mv (q1 (by omega)) e2 (tk_n (j := 0) (by omega))
  · unfold aFw
    rw [hA]
    by_cases e : b' = b
    · rw [if_pos e, e, vup_at]
    · rw [if_neg e, vup_ne e]; exact f2 b' hb'
  · rw [hst b' hb']
    by_cases e : b' = b
    · subst e
      rw [if_pos rfl]
      refine ⟨⟨(fun h => by cases h), (fun h => absurd h hs)⟩, fun _ => ?_⟩
      unfold aPg
      rw [hA, if_pos rfl]
    · rw [if_neg e]
      refine ⟨Iff.rfl, fun _ => ?_⟩
      unfold aPg
      rw [hA, if_neg e]
  · rw [hst b' hb']
    split
    · decide
    · exact h.2.2.2.2.2.2.2 b' hb'
theorem freds_at (A : aG) (x : Int32) (K : List Nat) (b : Nat) : aPg (freds A x K) b = aPg A b ∧ (aSt A b ≠ 0 → aSt (freds A x K) b ≠ 0) := by
  have e : (freds A x K).1 b = if b ∈ K then (2, aPg A b, x) else A.1 b := rfl
  unfold aPg aSt
  rw [e]
  by_cases h : b ∈ K
  · rw [if_pos h]; exact ⟨rfl, fun _ => by show 2 ≠ 0; decide⟩
  · rw [if_neg h]; exact ⟨rfl, fun h => h⟩
theorem k_free22 (ht : 0 < t) (hF : 64 ≤ F) {it m : Nat} {L : List mE} {nn x0 : Int32} (hS : ∀ x ∈ L, aSt A x.2.1 ≠ 0) : ∀ (R D : List mE) (fuel : Nat) (S : gS) (w : Nat → Nat), L = D ++ R → R.length < fuel → GR κ B bd S w t g c (freds A x0 (D.map (fun x => x.2.1))) → BD κ B bd S w → LM κ B S w (t + 3) m L → IT κ S w (t + 12) it (t + 3) m R →
    ∃ S', f_X3_free_22 κ F fuel (some g) x0 nn (some it) S = gB1 (gpf κ S' (some g) 7 6 (va_rf none)) (fun s4 => some (nn, s4)) ∧ ext (gT t) 0 0 S w S' w ∧ GR κ B bd S' w t g c (freds A x0 (L.map (fun x => x.2.1)))
  | [], D, fuel, S, w, hL, hf, hG, hB, hM, hI => by
    obtain ⟨f, rfl⟩ : ∃ f, fuel = f + 1 := ⟨fuel - 1, by omega⟩
    rw [List.append_nil] at hL
    subst hL
    refine ⟨S, ?_, ext_refl _ _ _, hG⟩
    rw [f_X3_free_22, f_X3_free_22b, it_ck hI, gB1_s, p_hasNext hI, gB2_s, if_pos rfl, if_pos rfl]
  | x :: R, D, fuel, S, w, hL, hf, hG, hB, hM, hI => by
    obtain ⟨f, rfl⟩ : ∃ f, fuel = f + 1 := ⟨fuel - 1, by omega⟩
    have hxm : x ∈ L := by rw [hL]; exact List.mem_append_right _ List.mem_cons_self
    have hx : x.2.1 < 32 := LM_lt hM x hxm
    obtain ⟨S1, n1, e1, n3⟩ := p_next (F := F) hI hM hL (by omega)
    have e1' : ext (fun y => y = t + 12) 0 0 S w S1 w := e1
    have hG1 := GR_mv hG e1' (fun y hy e => by have h1 := hy.2; have e : y = t + 12 := e; omega) (tk_0 ht)
    have hB1 := BD_mv hB e1' (tk_0 ht)
    obtain ⟨S2, S3, m1, m2, m3, e2, e2a, m5⟩ := k_fred ht hG1 hx ((freds_at A x0 _ x.2.1).2 (hS x hxm)) x0
    have tn : ∀ j, j ≠ 4 → j ≠ 5 → ¬ ((fun y => y = t + 4 ∨ y = t + 5) (t + j)) := fun j h1 h2 e => by
      rcases e with e | e
      · have e : t + j = t + 4 := e; omega
      · have e : t + j = t + 5 := e; omega
    have t0 : ¬ ((fun y => y = t + 4 ∨ y = t + 5) 0) := fun e => by
      rcases e with e | e
      · have e : 0 = t + 4 := e; omega
      · have e : 0 = t + 5 := e; omega
    have hM2 := LM_mv (LM_mv hM e1' (tk_n (by omega)) (tk_0 ht)) e2 (tn 3 (by omega) (by omega)) t0
    have hI2 := IT_mv n3 e2 (tn 12 (by omega) (by omega)) (tn 3 (by omega) (by omega))
    have hB2 := BD_mv hB1 e2 t0
    have hG2 : GR κ B bd S3 w t g c (freds A x0 ((D ++ [x]).map (fun x => x.2.1))) := by
      refine GR_eq m5 (aG_ext (fun b => ?_) rfl)
      rw [List.map_append, (freds_at A x0 _ x.2.1).1]
      show (if b = x.2.1 then (2, aPg A x.2.1, x0) else if b ∈ D.map (fun x => x.2.1) then (2, aPg A b, x0) else A.1 b) = if b ∈ D.map (fun x => x.2.1) ++ [x.2.1] then (2, aPg A b, x0) else A.1 b
      by_cases e : b = x.2.1
      · rw [if_pos e, if_pos (List.mem_append_right _ (by rw [e]; exact List.mem_cons_self)), e]
      · rw [if_neg e]
        by_cases e2 : b ∈ D.map (fun x => x.2.1)
        · rw [if_pos e2, if_pos (List.mem_append_left _ e2)]
        · rw [if_neg e2, if_neg (fun h => (List.mem_append.mp h).elim e2 (fun h => e (by simpa using h)))]
    obtain ⟨S4, r1, e3, r3⟩ := k_free22 ht hF (it := it) (m := m) (L := L) (nn := nn) hS R (D ++ [x]) f S3 w (by rw [hL, List.append_assoc]; rfl) (by simpa using hf) hG2 hB2 hM2 hI2
    refine ⟨S4, ?_, ext_mono (ext_trans (ext_mono e1' (gT_k (t := t) (k := 12) (by omega)) (Nat.le_refl _) (Nat.le_refl _)) (ext_trans (ext_mono e2 (fun y hy => hy.elim (gT_k (k := 4) (by omega) y) (gT_k (k := 5) (by omega) y)) (Nat.le_refl _) (Nat.le_refl _)) e3)) (fun _ h => h) (by omega) (by omega), r3⟩
    obtain ⟨b1, b2⟩ := bd_f hB1 hx
    have hB12 := BD_mv hB1 e2a (tk_0 ht)
    obtain ⟨b3, b4⟩ := bd_f hB12 hx
    rw [f_X3_free_22, f_X3_free_22b, it_ck hI, gB1_s, p_hasNext hI, gB2_s, if_neg (show ¬ x :: R = [] by simp), if_neg (by decide), it_ck hI, gB1_s, n1, gB2_s, b1, gB1_s, k_f1 hG1, gB1_s, b2, gB1_s, m1, gB1_s, m2, gB1_s, b4, gB1_s, m3, gB1_s]
    exact r1
theorem k_free {n : Nat} (h : GR κ B bd σ ω t g c A) (hB : BD κ B bd σ ω) (hF : 64 ≤ F) (ht : 0 < t) {d : aD} (hd : aDr A = some d) (hlu : ∀ b, b < 32 → d.2.1 b = true → aSt A b ≠ 0) (x : Int32) :
    ∃ σ' ω' c', f_X3_free κ F (some g) x σ = some (Int32.ofNat (cnt (isLeft A) 32), σ') ∧ ext (gT t) 2 7 σ ω σ' ω' ∧ GR κ B bd σ' ω' t g c' (freeA A x) := by
  obtain ⟨da, fs, ls, c1, c2, c3, c4⟩ := k_dr h hd
  have i := k_drI c2
  obtain ⟨z1, z2⟩ := k_ssize (F := F) c4
  obtain ⟨m, L, s1, s2, s3⟩ := c4
  obtain ⟨it, S1, ω1, n1, e1, n3, n4⟩ := p_iterator (F := F) (ti := t + 12) s1.1 s2
  have e1' : ext (fun x => x = t + 3) 2 7 σ ω S1 ω1 := e1
  obtain ⟨q1, q2, q3, q4, q5, q6, q7⟩ := GR_k ht h e1'
  have hB1 := BD_mv hB e1' (tk_0 ht)
  have hG1 : GR κ B bd S1 ω1 t g c (freds A x []) := by
    refine GR_lt (A := A) ⟨q1 (by omega), q2 (by omega), q3 (by omega), q4 (by omega) (by omega) (by omega), q5 (by omega), q6 (by omega), ?_, h.2.2.2.2.2.2.2⟩ (fun b _ => rfl) rfl
    unfold GDr
    rw [hd]
    exact ⟨da, fs, ls, c1, oc_mv c2 e1' (tk_n (by omega)), GSet_mv c3 e1' (tk_n (by omega)) (tk_n (by omega)) (tk_0 ht), ⟨m, L, oc_mv s1 e1' (tk_n (by omega)), n3, s3⟩⟩
  have hL32 : L.length ≤ 32 := by rw [LM_cnt s2 s3]; exact cnt_le _ _
  have hS : ∀ y ∈ L, aSt A y.2.1 ≠ 0 := fun y hy => by
    have hy32 := LM_lt s2 y hy
    refine hlu _ hy32 ?_
    rw [← s3 _ hy32, fnd_mem]
    exact decide_eq_true (List.mem_map.mpr ⟨y, hy, rfl⟩)
  obtain ⟨S2, r1, e2, r3⟩ := k_free22 (F := F) (nn := Int32.ofNat (cnt d.2.1 32)) (x0 := x) ht hF (it := it) (m := m) (L := L) hS L [] F S1 ω1 rfl (by omega) hG1 hB1 n3 n4
  have hG2 : GR κ B bd S2 ω1 t g c ((freeA A x).1, A.2) := GR_lt r3 (fun b hb => by
    show (if isLeft A b then (2, aPg A b, x) else A.1 b) = (if b ∈ L.map (fun x => x.2.1) then (2, aPg A b, x) else A.1 b)
    have h1 := s3 b hb
    rw [fnd_mem] at h1
    rw [isLeft_d hd, ← h1]
    show (if decide (b ∈ L.map (fun x => x.2.1)) = true then _ else _) = _
    by_cases e : b ∈ L.map (fun x => x.2.1)
    · rw [if_pos (decide_eq_true e), if_pos e]
    · rw [if_neg (fun h => e (of_decide_eq_true h)), if_neg e]) rfl
  obtain ⟨S3, x1, e3, x3⟩ := k_setdr ht hG2 none none
  refine ⟨S3, ω1, _, ?_, ext_mono (ext_trans (ext_mono e1' (gT_k (t := t) (k := 3) (by omega)) (Nat.le_refl _) (Nat.le_refl _)) (ext_trans e2 (ext_mono e3 (gT_k (t := t) (k := 0) (by omega)) (Nat.le_refl _) (Nat.le_refl _)))) (fun _ h => h) (by omega) (by omega), x3 rfl⟩
  rw [f_X3_free, f_X3_free_0, k_f6 h, c1, gB1_s, i.2.2.1, gB1_s, z1, gB1_s, z2, gB2_s, k_f6 h, c1, gB1_s, i.2.2.1, gB1_s, z1, gB1_s, n1, gB2_s, r1, x1, gB1_s]
  have : cnt d.2.1 32 = cnt (isLeft A) 32 := cnt_congr 32 (fun b _ => (isLeft_d hd b).symm)
  rw [this]
def rFs (x : aRo) : List Value := [.int x.1, .int (vDir x.2.1), .int (if x.2.2 then 1 else 0)]
theorem k_setRt (ht : 0 < t) (h : GR κ B bd σ ω t g c A) {r : Nat} (hr : r < 2) {i : Nat} (hi : i < 3) {v : Value} {x' : aRo} (hx : (rFs (aRt A r)).set i v = rFs x') : ∃ σ', gpf κ σ (some (if r = 0 then c_r0 c else c_r1 c)) 4 i v = some σ' ∧ ext (fun y => y = t + (7 + r)) 0 0 σ ω σ' ω ∧ GR κ B bd σ' ω t g c (setRt A r x') := by
  have h1 := k_rc h hr
  have h1' : oc κ σ ω (t + (7 + r)) (if r = 0 then c_r0 c else c_r1 c) (.inr (4, rFs (aRt A r))) := by rw [← Nat.add_assoc]; exact h1
  have s1 := oc_pf (v := v) h1' (k := i) hi
  have e1 := oc_ext_up h1' (.inr (4, (rFs (aRt A r)).set i v)) (fun y => y = t + (7 + r)) rfl
  have h2 := oc_up h1' (.inr (4, (rFs (aRt A r)).set i v))
  rw [hx] at s1 e1 h2
  obtain ⟨q1, q2, q3, q4, q5, q6, q7⟩ := GR_k ht h e1
  obtain ⟨f, f1, f2, f3, f4, f5⟩ := h.2.2.2.1
  refine ⟨_, s1, e1, by rw [gCell_cg (A := A) (A' := setRt A r x') rfl]; exact q1 (by omega), GSt_cg (q2 (by omega)) (fun _ _ => rfl), GFw_cg (q3 (by omega)) (fun _ _ => rfl), ⟨f, oc_mv f1 e1 (tk_n (by omega)), f2, f3, ?_, ?_⟩, GRd_cg (q5 (by omega)) rfl, GPg_cg (q6 (by omega)) (fun _ _ => ⟨rfl, fun _ => rfl⟩), GDr_cg (q7 (by omega) (by omega) (by omega) (by omega)) rfl, h.2.2.2.2.2.2.2⟩
  · show oc κ _ ω (t + 7) (c_r0 c) (rCell (va_up A.2.1 r x' 0))
    match r, hr with
    | 0, _ => rw [vup_at]; exact h2
    | 1, _ => rw [vup_ne (by decide)]; exact oc_mv f4 e1 (tk_n (by omega))
  · show oc κ _ ω (t + 8) (c_r1 c) (rCell (va_up A.2.1 r x' 1))
    match r, hr with
    | 0, _ => rw [vup_ne (by decide)]; exact oc_mv f5 e1 (tk_n (by omega))
    | 1, _ => rw [vup_at]; exact h2
theorem setRt_2 (A : aG) (r : Nat) (x y : aRo) : setRt (setRt A r x) r y = setRt A r y := by
  refine Prod.ext rfl (Prod.ext ?_ rfl)
  funext k
  show va_up (va_up A.2.1 r x) r y k = va_up A.2.1 r y k
  by_cases e : k = r
  · rw [e, vup_at, vup_at]
  · rw [vup_ne e, vup_ne e, vup_ne e]
theorem setRt_at (A : aG) (r : Nat) (x : aRo) : aRt (setRt A r x) r = x := vup_at _ _ _
theorem k_setCL (ht : 0 < t) (h : GR κ B bd σ ω t g c A) (x : Int32) : (∃ σ', gpf κ σ (some g) 7 7 (.int x) = some σ' ∧ ext (fun y => y = t + 0) 0 0 σ ω σ' ω ∧ GR κ B bd σ' ω t g c (setCL A x (aLs A))) ∧ (∃ σ', gpf κ σ (some g) 7 8 (.int x) = some σ' ∧ ext (fun y => y = t + 0) 0 0 σ ω σ' ω ∧ GR κ B bd σ' ω t g c (setCL A (aCm A) x)) := by
  constructor
  · have s1 := oc_pf (v := .int x) h.1 (k := 7) (show 7 < 9 by decide)
    have e1 := oc_ext_up h.1 (gCell bd c (setCL A x (aLs A))) (fun x => x = t + 0) rfl
    have h1 := oc_up h.1 (gCell bd c (setCL A x (aLs A)))
    obtain ⟨q1, q2, q3, q4, q5, q6, q7⟩ := GR_k ht h e1
    exact ⟨_, s1, e1, h1, GSt_cg (q2 (by omega)) (fun _ _ => rfl), GFw_cg (q3 (by omega)) (fun _ _ => rfl), GRt_cg (q4 (by omega) (by omega) (by omega)) rfl, GRd_cg (q5 (by omega)) rfl, GPg_cg (q6 (by omega)) (fun _ _ => ⟨rfl, fun _ => rfl⟩), GDr_cg (q7 (by omega) (by omega) (by omega) (by omega)) rfl, h.2.2.2.2.2.2.2⟩
  · have s1 := oc_pf (v := .int x) h.1 (k := 8) (show 8 < 9 by decide)
    have e1 := oc_ext_up h.1 (gCell bd c (setCL A (aCm A) x)) (fun x => x = t + 0) rfl
    have h1 := oc_up h.1 (gCell bd c (setCL A (aCm A) x))
    obtain ⟨q1, q2, q3, q4, q5, q6, q7⟩ := GR_k ht h e1
    exact ⟨_, s1, e1, h1, GSt_cg (q2 (by omega)) (fun _ _ => rfl), GFw_cg (q3 (by omega)) (fun _ _ => rfl), GRt_cg (q4 (by omega) (by omega) (by omega)) rfl, GRd_cg (q5 (by omega)) rfl, GPg_cg (q6 (by omega)) (fun _ _ => ⟨rfl, fun _ => rfl⟩), GDr_cg (q7 (by omega) (by omega) (by omega) (by omega)) rfl, h.2.2.2.2.2.2.2⟩
/-- a commit's last step -/
theorem k_com88 (h : GR κ B bd σ ω t g c A) (hB : BD κ B bd σ ω) (hF : 64 ≤ F) (ht : 0 < t) {A0 : aG} {s : Nat} {x : Int32} {d : aD} (hd : aDr A0 = some d) (hlu : ∀ b, b < 32 → d.2.1 b = true → aSt A0 b ≠ 0) (hs : s ≤ 3) {r : Nat} (hr : r < 2) (y : aRo) (hA : A = setRt A0 r y) :
    ∃ σ' ω' c', f_X3_commit_88 κ F (some g) (Int32.ofNat s) (some (if r = 0 then c_r0 c else c_r1 c)) x σ = some (.inl (if s = 3 then Int32.ofNat (cnt (isLeft A0) 32) else -1000), σ') ∧ ext (gT t) 10 50 σ ω σ' ω' ∧ GR κ B bd σ' ω' t g c' (if s = 3 then freeA (comA (setRt A0 r (y.1, y.2.1, true))) x else lostA (dropA (setRt A0 r y))) := by
  subst hA
  rw [f_X3_commit_88]
  by_cases h3 : s = 3
  · subst h3
    obtain ⟨S1, s1, e1, g1⟩ := k_setRt ht h hr (i := 2) (by omega) (v := .int 1) (x' := (y.1, y.2.1, true)) (by rw [setRt_at]; rfl)
    rw [setRt_2] at g1
    obtain ⟨⟨S2, s2, e2, g2⟩, _⟩ := k_setCL ht g1 (aCm A0 + 1)
    have g2' : GR κ B bd S2 ω t g c (comA (setRt A0 r (y.1, y.2.1, true))) := g2
    have E1 := ext_mono e1 (gT_k (t := t) (k := 7 + r) (by omega)) (Nat.le_refl _) (Nat.le_refl _)
    have E2 := ext_mono e2 (gT_k (t := t) (k := 0) (by omega)) (Nat.le_refl _) (Nat.le_refl _)
    have hB2 := BD_T (T := gT t) ht hB (ext_trans E1 E2)
    obtain ⟨S3, ω3, c3, f1, f2, f3⟩ := k_free (F := F) (n := 0) g2' hB2 hF ht (d := d) hd hlu x
    rw [if_pos (by decide), gok_z1, gB1_s, s1, gB1_s, k_f7 g1, gB1_s]
    show ∃ σ' ω' c', gB1 (gpf κ S1 (some g) 7 7 (.int (aCm A0 + 1))) _ = _ ∧ _
    rw [s2, gB1_s, k_ck g2', gB1_s, f1, gB2_s]
    exact ⟨S3, ω3, c3, rfl, ext_mono (ext_trans E1 (ext_trans E2 f2)) (fun _ h => h) (by omega) (by omega), f3⟩
  · obtain ⟨_, ⟨S2, s2, e2, g2⟩⟩ := k_setCL ht h (aLs A0 + 1)
    have g2' : GR κ B bd S2 ω t g c (lostA (setRt A0 r y)) := g2
    have E2 := ext_mono e2 (gT_k (t := t) (k := 0) (by omega)) (Nat.le_refl _) (Nat.le_refl _)
    have hB2 := BD_T (T := gT t) ht hB E2
    obtain ⟨S3, ω3, c3, f1, f2, f3⟩ := k_drop (F := F) g2' hB2 hF ht (isDr_true (A := lostA (setRt A0 r y)) hd)
    rw [if_neg (show ¬ (3 : Int32) ≤ Int32.ofNat s from by rw [L3, i3_le (by omega) (by omega)]; omega), k_f8 h, gB1_s]
    show ∃ σ' ω' c', gB1 (gpf κ σ (some g) 7 8 (.int (aLs A0 + 1))) _ = _ ∧ _
    rw [s2, gB1_s, k_ck g2', gB1_s, f1, gB2_s, if_neg h3, if_neg h3]
    exact ⟨S3, ω3, c3, rfl, ext_mono (ext_trans E2 f2) (fun _ h => h) (by omega) (by omega), f3⟩
theorem any_cnt {d : aD} (hd : aDr A = some d) : (0 < cnt d.1 32) ↔ anyNew A = true := by
  constructor
  · intro h
    obtain ⟨b, hb, hx⟩ := cnt_pos h
    exact any_of hd hb hx
  · intro h
    obtain ⟨d', e1, b, e2, e3⟩ := any_iff.mp h
    rw [hd] at e1
    cases e1
    have := cnt_one (f := fun _ => false) (g := fun x => decide (x = b)) (x := b) (n := 32) e2 rfl (by simp) (fun c hc => by simp [hc])
    have h2 := cnt_le2 (f := fun x => decide (x = b)) (g := d.1) 32 (fun c _ hc => by have := of_decide_eq_true hc; rw [this]; exact e3)
    omega
theorem k_commit {n : Nat} (h : GR κ B bd σ ω t g c A) (hB : BD κ B bd σ ω) (hT : KT κ) (hF : 64 ≤ F) (ht : 0 < t) (hw : WF n A) (steps : Int32) :
    ∃ σ' ω' c', f_X3_commit κ F (some g) steps σ = some (outE (spCommit A steps) eIA eIS, σ') ∧ ext (gT t) 10 60 σ ω σ' ω' ∧ GR κ B bd σ' ω' t g c' (gOf A (spCommit A steps)) := by
  unfold spCommit
  rw [f_X3_commit, f_X3_commit_0, lg_in (a := 0) (b := 3) (by decide) (by decide), gB2_s, k_reqArg hT (b := inR steps 0 3) (i := 33) (by decide) (by decide) rfl]
  cases c1 : inR steps 0 3 with
  | false => exact ⟨gthr σ, ω, c, rfl, nT_le (thr_ext σ ω) (by omega) (by omega), GR_n h (thr_ext σ ω)⟩
  | true =>
    obtain ⟨s, hs, rfl⟩ := inR_nat (b := 3) (by omega) c1
    rw [if_pos rfl, if_pos rfl, gB3_l, k_ck h, gB1_s, k_reqDraft h hT, (i3_ok (k := s) (by omega)).2]
    cases hdr : isDr A with
    | false => exact ⟨gthr σ, ω, c, rfl, nT_le (thr_ext σ ω) (by omega) (by omega), GR_n h (thr_ext σ ω)⟩
    | true =>
      obtain ⟨d, hd⟩ := isDr_d hdr
      obtain ⟨da, fs, ls, d1, d2, d3, d4⟩ := k_dr h hd
      have i := k_drI d2
      obtain ⟨z1, z2⟩ := k_ssize (F := F) d3
      have hch : f_X7_isChanged κ F (some da) σ = some (if anyNew A then 1 else 0, σ) := by
        have hc32 := cnt_le d.1 32
        rw [f_X7_isChanged, f_X7_isChanged_0, i.2.1, gB1_s, z1, gB1_s, z2, gB2_s]
        cases ha : anyNew A with
        | true =>
          have h0 := (any_cnt hd).mpr ha
          rw [if_neg (show ¬ Int32.ofNat (cnt d.1 32) ≤ (0 : Int32) from by rw [show (0 : Int32) = Int32.ofNat 0 from rfl, i3_le (by omega) (by omega)]; omega), f_X7_isChanged_15, gok_z1, gB1_s]
          rfl
        | false =>
          have h0 : cnt d.1 32 = 0 := by
            rcases Nat.eq_zero_or_pos (cnt d.1 32) with e | e
            · exact e
            · rw [(any_cnt hd).mp e] at ha; cases ha
          rw [h0, if_pos (by decide), f_X7_isChanged_15, gok_z0, gB1_s]
          rfl
      rw [if_pos rfl, if_pos rfl, gB3_l, k_f6 h, d1, gB1_s, i.1, gB1_s, hch, gB2_s]
      show ∃ σ' ω' c', _ = some ((Sum.inl (commitA A s).2 : Int32 ⊕ String), σ') ∧ ext (gT t) 10 60 σ ω σ' ω' ∧ GR κ B bd σ' ω' t g c' (commitA A s).1
      unfold commitA
      cases ha : anyNew A with
      | false =>
        obtain ⟨S1, x1, e1, x3⟩ := k_setdr ht h none none
        rw [if_pos (show (if (false = true) then (1 : Int32) else 0) = 0 from rfl), if_neg (show ¬ (false = true) by decide), x1, gB1_s]
        refine ⟨S1, ω, _, rfl, ext_mono e1 (gT_k (t := t) (k := 0) (by omega)) (by omega) (by omega), GR_lt (x3 rfl) (fun b hb => ?_) rfl⟩
        show (if isNew A b then _ else A.1 b) = A.1 b
        rw [isNew_d hd, any_not hd ha hb, if_neg (by decide)]
      | true =>
        have hcur := cur2 A
        have hlu : ∀ b, b < 32 → d.2.1 b = true → aSt A b ≠ 0 := fun b hb hx => by rw [(hw.2 d hd).2.2.2.2.2 b hb hx]; decide
        have hr : 1 - cur A < 2 := by omega
        rw [if_pos rfl, if_neg (by decide), if_pos rfl, k_f4 h, gB1_s, k_ck h, gB1_s, k_current h, gB2_s, show (1 : Int32) - Int32.ofNat (cur A) = Int32.ofNat (1 - cur A) from i3_sub (a := 1) (by omega), k_rt h hr, gB1_s, k_ck h, gB1_s, k_now h, gB2_s, k_nowI h, gB1_s]
        have hrt0 : rootA A = fun x => setRt A (1 - cur A) x := rfl
        by_cases s0 : s = 0
        · subst s0
          have hself : setRt A (1 - cur A) (aRt A (1 - cur A)) = A := by
            refine Prod.ext rfl (Prod.ext ?_ rfl)
            funext k
            show va_up A.2.1 (1 - cur A) (A.2.1 (1 - cur A)) k = A.2.1 k
            by_cases e : k = 1 - cur A
            · rw [e, vup_at]
            · rw [vup_ne e]
          obtain ⟨S1, ω1, c', q1, q2, q3⟩ := k_com88 (F := F) (s := 0) (x := nowC A + 1) h hB hF ht hd hlu (by omega) hr (aRt A (1 - cur A)) hself.symm
          rw [if_pos (by decide), f_X3_commit_67, if_pos (by decide), q1]
          exact ⟨S1, ω1, c', rfl, ext_mono q2 (fun _ h => h) (by omega) (by omega), q3⟩
        · obtain ⟨S1, s1, e1, g1⟩ := k_setRt ht h hr (i := 2) (by omega) (v := .int 0) (x' := ((aRt A (1 - cur A)).1, (aRt A (1 - cur A)).2.1, false)) rfl
          have E1 := ext_mono e1 (gT_k (t := t) (k := 7 + (1 - cur A)) (by omega)) (Nat.le_refl _) (Nat.le_refl _)
          have hB1 := BD_T (T := gT t) ht hB E1
          rw [if_neg (show ¬ Int32.ofNat s ≤ (0 : Int32) from by rw [show (0 : Int32) = Int32.ofNat 0 from rfl, i3_le (by omega) (by omega)]; omega), gok_z0, gB1_s, s1, gB1_s, f_X3_commit_67]
          by_cases s1' : s = 1
          · subst s1'
            obtain ⟨S2, ω2, c', q1, q2, q3⟩ := k_com88 (F := F) (s := 1) (x := nowC A + 1) g1 hB1 hF ht hd hlu (by omega) hr _ rfl
            rw [if_pos (by decide), q1]
            exact ⟨S2, ω2, c', rfl, ext_mono (ext_trans E1 q2) (fun _ h => h) (by omega) (by omega), q3⟩
          · obtain ⟨S2, s2, e2, g2⟩ := k_setRt ht g1 hr (i := 0) (by omega) (v := .int (nowC A + 1)) (x' := (nowC A + 1, (aRt A (1 - cur A)).2.1, false)) (by rw [setRt_at]; rfl)
            rw [setRt_2] at g2
            obtain ⟨da2, fs2, ls2, d1', d2', d3', d4'⟩ := k_dr g2 hd
            obtain ⟨S3, s3, e3, g3⟩ := k_setRt ht g2 hr (i := 1) (by omega) (v := .int (Int32.ofNat d.2.2)) (x' := (nowC A + 1, some d.2.2, false)) (by rw [setRt_at]; rfl)
            rw [setRt_2] at g3
            have E2 := ext_mono e2 (gT_k (t := t) (k := 7 + (1 - cur A)) (by omega)) (Nat.le_refl _) (Nat.le_refl _)
            have E3 := ext_mono e3 (gT_k (t := t) (k := 7 + (1 - cur A)) (by omega)) (Nat.le_refl _) (Nat.le_refl _)
            have E123 := ext_trans E1 (ext_trans E2 E3)
            have hB3 := BD_T (T := gT t) ht hB E123
            obtain ⟨S4, ω4, c', q1, q2, q3⟩ := k_com88 (F := F) (s := s) (x := nowC A + 1) g3 hB3 hF ht hd hlu hs hr _ rfl
            rw [if_neg (show ¬ Int32.ofNat s ≤ (1 : Int32) from by rw [show (1 : Int32) = Int32.ofNat 1 from rfl, i3_le (by omega) (by omega)]; omega), s2, gB1_s, k_f6 g2, d1', gB1_s, (k_drI d2').2.2.2, gB1_s, s3, gB1_s, q1]
            have eD := drD_d hd
            have hN : ∀ w : Nat, 2 ≤ w → w ≤ 3 → rootN A w = (nowC A + 1, some d.2.2, decide (w = 3)) := fun w h2 h3 => by
              unfold rootN
              simp only
              rw [if_pos h2, if_pos h2, if_neg (show ¬ w = 0 by omega), eD]
            by_cases h3 : s = 3
            · subst h3
              rw [if_pos rfl, if_pos rfl]
              refine ⟨S4, ω4, c', rfl, ext_mono (ext_trans E123 q2) (fun _ h => h) (by omega) (by omega), ?_⟩
              rw [if_pos rfl] at q3
              rw [hN 3 (by omega) (by omega)]
              exact q3
            · rw [if_neg h3, if_neg h3]
              refine ⟨S4, ω4, c', rfl, ext_mono (ext_trans E123 q2) (fun _ h => h) (by omega) (by omega), ?_⟩
              rw [if_neg h3] at q3
              rw [hN s (by omega) hs, decide_eq_false h3]
              exact q3
end C
