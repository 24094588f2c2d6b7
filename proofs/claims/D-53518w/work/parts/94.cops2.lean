/-! the component: begin, abort, open, close -/
theorem fresh_tag (ω : Nat → Nat) : ∀ n, ∃ X, 0 < X ∧ ∀ a, a < n → ω a ≠ X := by
  have h : ∀ n, ∃ M, ∀ a, a < n → ω a ≤ M := fun n => by
    induction n with
    | zero => exact ⟨0, fun a ha => absurd ha (Nat.not_lt_zero _)⟩
    | succ n ih =>
      obtain ⟨M, hM⟩ := ih
      refine ⟨M + ω n, fun a ha => ?_⟩
      by_cases e : a = n
      · rw [e]; omega
      · have := hM a (by omega); omega
  intro n
  obtain ⟨M, hM⟩ := h n
  exact ⟨M + 1, by omega, fun a ha e => by have := hM a ha; omega⟩
theorem retag {X n m : Nat} {σ S : gS} {ω ω1 ω' : Nat → Nat} (e : ext (fun x => x = X) n m σ ω S ω1) (hX : ∀ a, a < σ.2.1 → ω a ≠ X) (h : ∀ a, a < σ.2.1 → ω' a = ω a) : ext nT n m σ ω S ω' := by
  obtain ⟨a1, a2, a3, a4, a5, a6⟩ := e
  exact ⟨a1, a2, a3, a4, h, fun a ha _ => a6 a ha (hX a ha)⟩
theorem oc_retag {κ : gK} {S : gS} {ω1 ω' : Nat → Nat} {X u a : Nat} {d : gC} (h : oc κ S ω1 X a d) (hu : ω' a = u) : oc κ S ω' u a d := ⟨h.1, h.2.1, hu, h.2.2.2⟩
def setdr (c : gA) (o : Option Nat) : gA := (c.1, c.2.1, c.2.2.1, c.2.2.2.1, c.2.2.2.2.1, c.2.2.2.2.2.1, c.2.2.2.2.2.2.1, o)
section C
variable {κ : gK} {B : Nat → Nat} {bd : Nat} {F : Nat} {σ : gS} {ω : Nat → Nat} {t g : Nat} {c : gA} {A : aG}
theorem k_newSet {u t' : Nat} (hb : κ.1 ≤ σ.2.1) : ∃ s σ' ω', gnw σ 12 g0_J28 1 = some (some s, gpush σ (.inr (12, g0_J28)) 1) ∧ f_J28_init κ F (some s) (gpush σ (.inr (12, g0_J28)) 1) = some ((), σ') ∧ ext nT 2 13 σ ω σ' ω' ∧ GSet κ B σ' ω' u t' s (fun _ => false) := by
  obtain ⟨X, hX0, hX⟩ := fresh_tag ω σ.2.1
  have hω : ∀ b, σ.2.1 ≤ b → own ω σ.2.1 X b = X := fun b hb => own_new hb
  obtain ⟨p1, p2⟩ := push_oc (κ := κ) hω hb (.inr (12, g0_J28)) 1
  obtain ⟨S2, q1, q2, q3, q4⟩ := p_newSet (F := F) p1 (hω _ p2.1)
  have e : ext (fun x => x = X) 2 13 σ ω S2 (own ω σ.2.1 X) := ext_mono (ext_trans (ext_own (fun x => x = X) σ ω X) (ext_trans (nT_le p2 (Nat.le_refl _) (Nat.le_refl _)) q2)) (fun _ h => h) (by omega) (by omega)
  have hne : σ.2.1 ≠ (gpush σ (.inr (12, g0_J28)) 1).2.1 := by show σ.2.1 ≠ σ.2.1 + 1; omega
  refine ⟨σ.2.1, S2, fun b => if b < σ.2.1 then ω b else if b = σ.2.1 then u else t', rfl, q1, retag e hX (fun a ha => if_pos ha), ⟨(gpush σ (.inr (12, g0_J28)) 1).2.1, [], oc_retag q3 ?_, LM_nil (oc_retag q4 ?_) (Or.inr rfl), fun b _ => rfl⟩⟩
  · show (if σ.2.1 < σ.2.1 then _ else _) = _
    rw [if_neg (Nat.lt_irrefl _), if_pos rfl]
  · show (if σ.2.1 + 1 < σ.2.1 then _ else if σ.2.1 + 1 = σ.2.1 then _ else _) = _
    rw [if_neg (by omega), if_neg (by omega)]
/-- a new draft's sets -/
theorem k_dinit {da : Nat} {x : Int32} (ht : 0 < t) (hda : oc κ σ ω (t + 10) da (.inr (6, g0_X7))) :
    ∃ σ' ω' fs ls, f_X7_init κ F (some da) x σ = some ((), σ') ∧ ext (fun y => y = t + 10) 4 26 σ ω σ' ω' ∧ oc κ σ' ω' (t + 10) da (.inr (6, [.ref fs, .ref ls, .int x])) ∧ GSet κ B σ' ω' (t + 11) (t + 2) fs (fun _ => false) ∧ GSet κ B σ' ω' (t + 11) (t + 3) ls (fun _ => false) := by
  have hb : κ.1 ≤ σ.2.1 := by have h1 := hda.2.1; have h2 := hda.2.2.2; omega
  obtain ⟨fs, S1, ω1, n1, n2, e1, n4⟩ := k_newSet (κ := κ) (B := B) (F := F) (σ := σ) (ω := ω) (u := t + 11) (t' := t + 2) hb
  have h1 := oc_mv hda e1 (fun h => h)
  have s1 := oc_pf (v := va_rf (some fs)) h1 (show 0 < g0_X7.length by decide)
  have e2 := oc_ext_up h1 (.inr (6, g0_X7.set 0 (va_rf (some fs)))) (fun y => y = t + 10) rfl
  have h2 := oc_up h1 (.inr (6, g0_X7.set 0 (va_rf (some fs))))
  generalize gup S1 da (.inr (6, g0_X7.set 0 (va_rf (some fs)))) = S2 at s1 e2 h2
  have n4' := GSet_mv n4 e2 (tk_n (by omega)) (tk_n (by omega)) (tk_0 ht)
  have hb2 : κ.1 ≤ S2.2.1 := by have h1 := h2.2.1; have h2 := h2.2.2.2; omega
  obtain ⟨ls, S3, ω3, m1, m2, e3, m4⟩ := k_newSet (κ := κ) (B := B) (F := F) (σ := S2) (ω := ω1) (u := t + 11) (t' := t + 3) hb2
  have h3 := oc_mv h2 e3 (fun h => h)
  have s2 := oc_pf (v := va_rf (some ls)) h3 (show 1 < (g0_X7.set 0 (va_rf (some fs))).length by rw [List.length_set]; decide)
  have e4 := oc_ext_up h3 (.inr (6, (g0_X7.set 0 (va_rf (some fs))).set 1 (va_rf (some ls)))) (fun y => y = t + 10) rfl
  have h4 := oc_up h3 (.inr (6, (g0_X7.set 0 (va_rf (some fs))).set 1 (va_rf (some ls))))
  generalize gup S3 da (.inr (6, (g0_X7.set 0 (va_rf (some fs))).set 1 (va_rf (some ls)))) = S4 at s2 e4 h4
  have s3 := oc_pf (v := .int x) h4 (show 2 < ((g0_X7.set 0 (va_rf (some fs))).set 1 (va_rf (some ls))).length by rw [List.length_set, List.length_set]; decide)
  have e5 := oc_ext_up h4 (.inr (6, ((g0_X7.set 0 (va_rf (some fs))).set 1 (va_rf (some ls))).set 2 (.int x))) (fun y => y = t + 10) rfl
  have h5 := oc_up h4 (.inr (6, ((g0_X7.set 0 (va_rf (some fs))).set 1 (va_rf (some ls))).set 2 (.int x)))
  refine ⟨_, ω3, fs, ls, ?_, ext_mono (ext_trans (nT_le e1 (Nat.le_refl _) (Nat.le_refl _)) (ext_trans e2 (ext_trans (nT_le e3 (Nat.le_refl _) (Nat.le_refl _)) (ext_trans e4 e5)))) (fun _ h => h) (by omega) (by omega), h5, ?_, ?_⟩
  · rw [f_X7_init, f_X7_init_0, gsm_s, gB1_s, n1, gB2_s, gsm_s, gB1_s, n2, gB2_s, s1, gB1_s, m1, gB2_s, gsm_s, gB1_s, m2, gB2_s, s2, gB1_s, s3, gB1_s]
  · exact GSet_mv (GSet_mv (GSet_mv n4' e3 (fun h => h) (fun h => h) (fun h => h)) e4 (tk_n (by omega)) (tk_n (by omega)) (tk_0 ht)) e5 (tk_n (by omega)) (tk_n (by omega)) (tk_0 ht)
  · exact GSet_mv (GSet_mv m4 e4 (tk_n (by omega)) (tk_n (by omega)) (tk_0 ht)) e5 (tk_n (by omega)) (tk_n (by omega)) (tk_0 ht)
/-- the draft's field is written -/
theorem k_setdr (ht : 0 < t) (h : GR κ B bd σ ω t g c A) (o : Option Nat) (d : Option aD) : ∃ σ', gpf κ σ (some g) 7 6 (va_rf o) = some σ' ∧ ext (fun x => x = t + 0) 0 0 σ ω σ' ω ∧ (GDr κ B σ' ω t o (setDr A d) → GR κ B bd σ' ω t g (setdr c o) (setDr A d)) := by
  have s1 := oc_pf (v := va_rf o) h.1 (k := 6) (show 6 < 9 by decide)
  have e1 := oc_ext_up h.1 (gCell bd (setdr c o) A) (fun x => x = t + 0) rfl
  have h1 := oc_up h.1 (gCell bd (setdr c o) A)
  refine ⟨_, s1, e1, fun hd => ?_⟩
  obtain ⟨q1, q2, q3, q4, q5, q6, q7⟩ := GR_k ht h e1
  exact ⟨by rw [gCell_cg (A := A) (A' := setDr A d) rfl]; exact h1, GSt_cg (q2 (by omega)) (fun _ _ => rfl), GFw_cg (q3 (by omega)) (fun _ _ => rfl), GRt_cg (q4 (by omega) (by omega) (by omega)) rfl, GRd_cg (q5 (by omega)) rfl, GPg_cg (q6 (by omega)) (fun _ _ => ⟨rfl, fun _ => rfl⟩), hd, h.2.2.2.2.2.2.2⟩
theorem k_begin {n : Nat} (h : GR κ B bd σ ω t g c A) (hT : KT κ) (ht : 0 < t) (hw : WF n A) :
    ∃ σ' ω' c', f_X3_begin κ F (some g) σ = some (outE (spBegin A) eIS eIS, σ') ∧ ext (gT t) 10 60 σ ω σ' ω' ∧ GR κ B bd σ' ω' t g c' (gOf A (spBegin A)) := by
  unfold spBegin
  rw [f_X3_begin, f_X3_begin_0, k_f6 h, gB1_s]
  cases hd : isDr A with
  | true =>
    rw [if_neg (fun e => by rw [(k_drn h).mp e] at hd; cases hd), f_X3_begin_12, k_reqState hT (b := false) (i := 28) (x := 0) (by decide) (by decide) rfl]
    exact ⟨gthr σ, ω, c, rfl, nT_le (thr_ext σ ω) (by omega) (by omega), GR_n h (thr_ext σ ω)⟩
  | false =>
    have hω : ∀ b, σ.2.1 ≤ b → own ω σ.2.1 (t + 10) b = t + 10 := fun b hb => own_new hb
    obtain ⟨p1, p2⟩ := push_oc (κ := κ) hω (k_base h) (.inr (6, g0_X7)) 3
    have e0 : ext nT 1 3 σ ω (gpush σ (.inr (6, g0_X7)) 3) (own ω σ.2.1 (t + 10)) := ext_mono (ext_trans (ext_own nT σ ω (t + 10)) p2) (fun _ h => h) (by omega) (by omega)
    have h0 := GR_n h e0
    obtain ⟨S1, ω1, fs, ls, i1, e1, i3, i4, i5⟩ := k_dinit (κ := κ) (B := B) (F := F) (x := Int32.ofNat (nowD A)) ht p1
    -- what rides over the sets' making
    have hnn : aDr A = none := by unfold isDr at hd; cases hx : aDr A with | none => rfl | some d => rw [hx] at hd; cases hd
    have hGD : ∀ (S : gS) (w : Nat → Nat), GDr κ B S w t (c_dr c) A := fun S w => by
      unfold GDr; rw [hnn]
      exact (k_drn h).mpr hd
    obtain ⟨q1, q2, q3, q4, q5, q6, q7⟩ := GR_k ht h0 e1
    have h1 : GR κ B bd S1 ω1 t g c A := ⟨q1 (by omega), q2 (by omega), q3 (by omega), q4 (by omega) (by omega) (by omega), q5 (by omega), q6 (by omega), hGD _ _, h.2.2.2.2.2.2.2⟩
    obtain ⟨S2, s1, e2, s3⟩ := k_setdr ht h1 (some σ.2.1) (some (fun _ => false, fun _ => false, nowD A))
    have h2 : GR κ B bd S2 ω1 t g (setdr c (some σ.2.1)) (beginA A) := s3 (by
      show ∃ da fs ls, _
      exact ⟨σ.2.1, fs, ls, rfl, oc_mv i3 e2 (tk_n (by omega)), GSet_mv i4 e2 (tk_n (by omega)) (tk_n (by omega)) (tk_0 ht), GSet_mv i5 e2 (tk_n (by omega)) (tk_n (by omega)) (tk_0 ht)⟩)
    rw [if_pos ((k_drn h).mpr hd), f_X3_begin_12, k_reqState hT (b := true) (i := 28) (x := 1) (by decide) (by decide) rfl, if_pos rfl, if_pos rfl, gB3_l, gnw, gB2_s, k_ck h0, gB1_s, k_now h0, gB2_s, k_nowD h0 hw.1.1, gB1_s, gsm_s, gB1_s, i1, gB2_s, s1, gB1_s, k_ck h2, gB1_s, k_now h2, gB2_s, k_nowI h2, gB1_s]
    have hnc : nowC (beginA A) = nowC A := (rt_congr (A := A) (A' := beginA A) rfl).2.1
    rw [hnc]
    refine ⟨S2, ω1, _, rfl, ext_mono (ext_trans (nT_le e0 (Nat.le_refl _) (Nat.le_refl _)) (ext_trans (ext_mono e1 (gT_k (t := t) (k := 10) (by omega)) (Nat.le_refl _) (Nat.le_refl _)) (ext_mono e2 (gT_k (t := t) (k := 0) (by omega)) (Nat.le_refl _) (Nat.le_refl _)))) (fun _ h => h) (by omega) (by omega), h2⟩
/-- a garden of which only the beds below 32 matter -/
theorem GR_lt {A' : aG} (h : GR κ B bd σ ω t g c A) (h1 : ∀ b, b < 32 → A'.1 b = A.1 b) (h2 : A'.2 = A.2) : GR κ B bd σ ω t g c A' := by
  obtain ⟨a1, a2, a3, a4, a5, a6, a7, a8⟩ := h
  refine ⟨by rw [gCell_cg (A := A) (A' := A') (by rw [h2])]; exact a1, GSt_cg a2 (fun b hb => by unfold aSt; rw [h1 b hb]), GFw_cg a3 (fun b hb => by unfold aFw; rw [h1 b hb]), GRt_cg a4 (by rw [h2]), GRd_cg a5 (by rw [h2]), GPg_cg a6 (fun b hb => by unfold aSt aPg; rw [h1 b hb]; exact ⟨rfl, fun _ => rfl⟩), GDr_cg a7 (by unfold aDr; rw [h2]), fun b hb => by unfold aSt; rw [h1 b hb]; exact a8 b hb⟩
/-- some beds wild, some freed -/
def wilds (A : aG) (K : List Nat) : aG := (fun b => if b ∈ K then (0, aPg A b, aFw A b) else A.1 b, A.2)
def freds (A : aG) (x : Int32) (K : List Nat) : aG := (fun b => if b ∈ K then (2, aPg A b, x) else A.1 b, A.2)
theorem it_ck {ti it m : Nat} {R : List mE} (h : IT κ σ ω ti it t m R) : gck σ (some it) 14 = some () := by
  obtain ⟨cur, md, fs, h1, h2, h3⟩ := h
  rw [gck_u, h1.1]; rfl
theorem bd_f {b : Nat} (hB : BD κ B bd σ ω) (hb : b < 32) : gcc σ (some (B b)) 1 = some () ∧ gfI σ (some (B b)) 1 0 = some (Int32.ofNat b) := by
  rw [gcc_u, gfI_u, k_bdc hB hb]
  exact ⟨rfl, rfl⟩
theorem LM_lt {m : Nat} {L : List mE} (h : LM κ B σ ω t m L) : ∀ x ∈ L, x.2.1 < 32 := by
  obtain ⟨tb, ks, md, th, n, h1, h2, h3, h4, h5⟩ := h
  exact EnX_lt h4
theorem k_drop22 (ht : 0 < t) (hF : 64 ≤ F) {it m : Nat} {L : List mE} {nn : Int32} : ∀ (R D : List mE) (fuel : Nat) (S : gS) (w : Nat → Nat), L = D ++ R → R.length < fuel → GR κ B bd S w t g c (wilds A (D.map (fun x => x.2.1))) → BD κ B bd S w → LM κ B S w (t + 2) m L → IT κ S w (t + 12) it (t + 2) m R →
    ∃ S', f_X3_drop_22 κ F fuel (some g) nn (some it) S = gB1 (gpf κ S' (some g) 7 6 (va_rf none)) (fun s4 => some (nn, s4)) ∧ ext (gT t) 0 0 S w S' w ∧ GR κ B bd S' w t g c (wilds A (L.map (fun x => x.2.1)))
  | [], D, fuel, S, w, hL, hf, hG, hB, hM, hI => by
    obtain ⟨f, rfl⟩ : ∃ f, fuel = f + 1 := ⟨fuel - 1, by omega⟩
    rw [List.append_nil] at hL
    subst hL
    refine ⟨S, ?_, ext_refl _ _ _, hG⟩
    rw [f_X3_drop_22, f_X3_drop_22b, it_ck hI, gB1_s, p_hasNext hI, gB2_s, if_pos rfl, if_pos rfl]
  | x :: R, D, fuel, S, w, hL, hf, hG, hB, hM, hI => by
    obtain ⟨f, rfl⟩ : ∃ f, fuel = f + 1 := ⟨fuel - 1, by omega⟩
    have hx : x.2.1 < 32 := LM_lt hM x (by rw [hL]; exact List.mem_append_right _ List.mem_cons_self)
    obtain ⟨S1, n1, e1, n3⟩ := p_next (F := F) hI hM hL (by omega)
    have e1' : ext (fun y => y = t + 12) 0 0 S w S1 w := e1
    have hG1 := GR_mv hG e1' (fun y hy e => by have h1 := hy.2; have e : y = t + 12 := e; omega) (tk_0 ht)
    have hB1 := BD_mv hB e1' (tk_0 ht)
    obtain ⟨S2, m1, e2, m3⟩ := k_makeWild (F := F) hG1 hB1 hF ht hx
    have tn : ∀ j, j ≠ 4 → j ≠ 1 → ¬ ((fun x => x = t + 4 ∨ x = t + 1) (t + j)) := fun j h1 h2 e => by
      rcases e with e | e
      · have e : t + j = t + 4 := e; omega
      · have e : t + j = t + 1 := e; omega
    have t0 : ¬ ((fun x => x = t + 4 ∨ x = t + 1) 0) := fun e => by
      rcases e with e | e
      · have e : 0 = t + 4 := e; omega
      · have e : 0 = t + 1 := e; omega
    have hM2 := LM_mv (LM_mv hM e1' (tk_n (by omega)) (tk_0 ht)) e2 (tn 2 (by omega) (by omega)) t0
    have hI2 := IT_mv n3 e2 (tn 12 (by omega) (by omega)) (tn 2 (by omega) (by omega))
    have hB2 := BD_mv hB1 e2 t0
    have hG2 : GR κ B bd S2 w t g c (wilds A ((D ++ [x]).map (fun x => x.2.1))) := by
      refine GR_eq m3 (aG_ext (fun b => ?_) rfl)
      rw [wB_1, List.map_append]
      show (if b = x.2.1 then (0, aPg (wilds A (D.map (fun x => x.2.1))) x.2.1, aFw (wilds A (D.map (fun x => x.2.1))) x.2.1) else if b ∈ D.map (fun x => x.2.1) then (0, aPg A b, aFw A b) else A.1 b) = if b ∈ D.map (fun x => x.2.1) ++ [x.2.1] then (0, aPg A b, aFw A b) else A.1 b
      have hpg : ∀ y, aPg (wilds A (D.map (fun x => x.2.1))) y = aPg A y ∧ aFw (wilds A (D.map (fun x => x.2.1))) y = aFw A y := fun y => by
        show (if y ∈ D.map (fun x => x.2.1) then (0, aPg A y, aFw A y) else A.1 y).2.1 = _ ∧ (if y ∈ D.map (fun x => x.2.1) then (0, aPg A y, aFw A y) else A.1 y).2.2 = _
        by_cases e : y ∈ D.map (fun x => x.2.1)
        · rw [if_pos e]; exact ⟨rfl, rfl⟩
        · rw [if_neg e]; exact ⟨rfl, rfl⟩
      rw [(hpg x.2.1).1, (hpg x.2.1).2]
      by_cases e : b = x.2.1
      · rw [if_pos e, if_pos (List.mem_append_right _ (by rw [e]; exact List.mem_cons_self)), e]
      · rw [if_neg e]
        by_cases e2 : b ∈ D.map (fun x => x.2.1)
        · rw [if_pos e2, if_pos (List.mem_append_left _ e2)]
        · rw [if_neg e2, if_neg (fun h => (List.mem_append.mp h).elim e2 (fun h => e (by simpa using h)))]
    obtain ⟨S3, r1, e3, r3⟩ := k_drop22 ht hF (it := it) (m := m) (L := L) (nn := nn) R (D ++ [x]) f S2 w (by rw [hL, List.append_assoc]; rfl) (by simpa using hf) hG2 hB2 hM2 hI2
    refine ⟨S3, ?_, ext_mono (ext_trans (ext_mono e1' (gT_k (t := t) (k := 12) (by omega)) (Nat.le_refl _) (Nat.le_refl _)) (ext_trans (ext_mono e2 (fun y hy => hy.elim (gT_k (k := 4) (by omega) y) (gT_k (k := 1) (by omega) y)) (Nat.le_refl _) (Nat.le_refl _)) e3)) (fun _ h => h) (by omega) (by omega), r3⟩
    obtain ⟨b1, b2⟩ := bd_f hB1 hx
    rw [f_X3_drop_22, f_X3_drop_22b, it_ck hI, gB1_s, p_hasNext hI, gB2_s, if_neg (show ¬ x :: R = [] by simp), if_neg (by decide), it_ck hI, gB1_s, n1, gB2_s, b1, gB1_s, b2, gB1_s, k_ck hG1, gB1_s, m1, gB2_s]
    exact r1
theorem wilds_eq {L : List mE} {d : aD} (hd : aDr A = some d) (hp : ∀ b, b < 32 → (fnd b L).isSome = d.1 b) : ∀ b, b < 32 → (dropA A).1 b = (wilds A (L.map (fun x => x.2.1))).1 b := by
  intro b hb
  show (if isNew A b then _ else _) = (if b ∈ L.map (fun x => x.2.1) then _ else _)
  have h1 := hp b hb
  rw [fnd_mem] at h1
  rw [isNew_d hd, ← h1]
  show (if decide (b ∈ L.map (fun x => x.2.1)) = true then _ else _) = _
  by_cases e : b ∈ L.map (fun x => x.2.1)
  · rw [if_pos (decide_eq_true e), if_pos e]
  · rw [if_neg (fun h => e (of_decide_eq_true h)), if_neg e]
theorem k_drop (h : GR κ B bd σ ω t g c A) (hB : BD κ B bd σ ω) (hF : 64 ≤ F) (ht : 0 < t) (hdr : isDr A = true) :
    ∃ σ' ω' c', f_X3_drop κ F (some g) σ = some (Int32.ofNat (cnt (isNew A) 32), σ') ∧ ext (gT t) 2 7 σ ω σ' ω' ∧ GR κ B bd σ' ω' t g c' (dropA A) := by
  obtain ⟨d, hd⟩ := isDr_d hdr
  obtain ⟨da, fs, ls, c1, c2, c3, c4⟩ := k_dr h hd
  have i := k_drI c2
  obtain ⟨z1, z2⟩ := k_ssize (F := F) c3
  obtain ⟨m, L, s1, s2, s3⟩ := c3
  obtain ⟨it, S1, ω1, n1, e1, n3, n4⟩ := p_iterator (F := F) (ti := t + 12) s1.1 s2
  have e1' : ext (fun x => x = t + 2) 2 7 σ ω S1 ω1 := e1
  obtain ⟨q1, q2, q3, q4, q5, q6, q7⟩ := GR_k ht h e1'
  have hB1 := BD_mv hB e1' (tk_0 ht)
  have hG1 : GR κ B bd S1 ω1 t g c (wilds A []) := by
    refine GR_lt (A := A) ⟨q1 (by omega), q2 (by omega), q3 (by omega), q4 (by omega) (by omega) (by omega), q5 (by omega), q6 (by omega), ?_, h.2.2.2.2.2.2.2⟩ (fun b _ => rfl) rfl
    unfold GDr
    rw [hd]
    exact ⟨da, fs, ls, c1, oc_mv c2 e1' (tk_n (by omega)), ⟨m, L, oc_mv s1 e1' (tk_n (by omega)), n3, s3⟩, GSet_mv c4 e1' (tk_n (by omega)) (tk_n (by omega)) (tk_0 ht)⟩
  have hL32 : L.length ≤ 32 := by rw [LM_cnt s2 s3]; exact cnt_le _ _
  obtain ⟨S2, r1, e2, r3⟩ := k_drop22 (F := F) (nn := Int32.ofNat (cnt d.1 32)) ht hF (it := it) (m := m) (L := L) L [] F S1 ω1 rfl (by omega) hG1 hB1 n3 n4
  have hG2 : GR κ B bd S2 ω1 t g c ((dropA A).1, A.2) := GR_lt r3 (wilds_eq hd s3) rfl
  obtain ⟨S3, x1, e3, x3⟩ := k_setdr ht hG2 none none
  refine ⟨S3, ω1, _, ?_, ext_mono (ext_trans (ext_mono e1' (gT_k (t := t) (k := 2) (by omega)) (Nat.le_refl _) (Nat.le_refl _)) (ext_trans e2 (ext_mono e3 (gT_k (t := t) (k := 0) (by omega)) (Nat.le_refl _) (Nat.le_refl _)))) (fun _ h => h) (by omega) (by omega), x3 rfl⟩
  rw [f_X3_drop, f_X3_drop_0, k_f6 h, c1, gB1_s, i.2.1, gB1_s, z1, gB1_s, z2, gB2_s, k_f6 h, c1, gB1_s, i.2.1, gB1_s, z1, gB1_s, n1, gB2_s, r1, x1, gB1_s]
  have : cnt d.1 32 = cnt (isNew A) 32 := cnt_congr 32 (fun b _ => (isNew_d hd b).symm)
  rw [this]
theorem k_abort {n : Nat} (h : GR κ B bd σ ω t g c A) (hB : BD κ B bd σ ω) (hT : KT κ) (hF : 64 ≤ F) (ht : 0 < t) (hw : WF n A) :
    ∃ σ' ω' c', f_X3_abort κ F (some g) σ = some (outE (spAbort A) eIS eIS, σ') ∧ ext (gT t) 10 60 σ ω σ' ω' ∧ GR κ B bd σ' ω' t g c' (gOf A (spAbort A)) := by
  unfold spAbort
  rw [f_X3_abort, f_X3_abort_0, k_ck h, gB1_s, k_reqDraft h hT]
  cases hd : isDr A with
  | false => exact ⟨gthr σ, ω, c, rfl, nT_le (thr_ext σ ω) (by omega) (by omega), GR_n h (thr_ext σ ω)⟩
  | true =>
    obtain ⟨S1, ω1, c', q1, q2, q3⟩ := k_drop (F := F) h hB hF ht hd
    rw [if_pos rfl, if_pos rfl, gB3_l, k_ck h, gB1_s, q1, gB2_s]
    exact ⟨S1, ω1, c', rfl, ext_mono q2 (fun _ h => h) (by omega) (by omega), q3⟩
theorem k_open2 (h : GR κ B bd σ ω t g c A) : ∀ (d fuel k : Nat), k + d = 4 → d < fuel → f_X3_open_2 κ F fuel (some g) (Int32.ofNat k) σ = f_X3_open_22 κ F (some g) (Int32.ofNat (fcl A k d)) σ
  | 0, fuel, k, hk, hf => by
    obtain ⟨f, rfl⟩ : ∃ f, fuel = f + 1 := ⟨fuel - 1, by omega⟩
    have hk : k = 4 := by omega
    subst hk
    rw [f_X3_open_2, f_X3_open_2b, if_pos (by decide)]
    rfl
  | d + 1, fuel, k, hk, hf => by
    obtain ⟨f, rfl⟩ : ∃ f, fuel = f + 1 := ⟨fuel - 1, by omega⟩
    have c4 : ¬ ((4 : Int32) ≤ Int32.ofNat k) := by rw [L4, i3_le (by omega) (by omega)]; omega
    obtain ⟨r1, r2⟩ := k_rd h (k := k) (by omega)
    rw [f_X3_open_2, f_X3_open_2b, if_neg c4, k_f5 h, gB1_s, fcl]
    cases hd : aRd A k with
    | none =>
      rw [r1 hd, gB1_s, if_pos rfl, if_neg (by decide)]
    | some q =>
      obtain ⟨a, a1, a2⟩ := r2 q hd
      rw [a1, gB1_s, if_neg (by simp), i3_s, if_pos (by rfl)]
      exact k_open2 h d f (k + 1) (by omega) (by omega)
/-- a reader's place is written -/
theorem k_setRd (ht : 0 < t) (h : GR κ B bd σ ω t g c A) {k : Nat} (hk : k < 4) (o : Option Nat) (q : Option (Int32 × Nat)) (ho : match q with | none => o = none | some q => ∃ a, o = some a ∧ oc κ σ ω 0 a (.inr (5, [.int q.1, .int (Int32.ofNat q.2)]))) :
    ∃ σ', gsR κ σ (some (c_rd c)) (Int32.ofNat k) o = some σ' ∧ ext (fun x => x = t + 9) 0 0 σ ω σ' ω ∧ GR κ B bd σ' ω t g c (A.1, A.2.1, va_up A.2.2.1 k q, A.2.2.2) := by
  obtain ⟨f, h1, h2⟩ := h.2.2.2.2.1
  have hok : gokR κ σ 6 o := by
    cases q with
    | none => rw [show o = none from ho]; trivial
    | some q =>
      obtain ⟨a, a1, a2⟩ := ho
      rw [a1]
      unfold gokR
      left
      rw [a2.1]
      show (6, 5) ∈ gOkA
      decide
  have s1 := oc_sR h1 (by omega) hk (by omega) hok
  have e1 := oc_ext_up h1 (.inl (6, 4, rA (va_up f k o))) (fun x => x = t + 9) rfl
  have h1' := oc_up h1 (.inl (6, 4, rA (va_up f k o)))
  obtain ⟨q1, q2, q3, q4, q5, q6, q7⟩ := GR_k ht h e1
  refine ⟨_, s1, e1, ?_, GSt_cg (q2 (by omega)) (fun _ _ => rfl), GFw_cg (q3 (by omega)) (fun _ _ => rfl), GRt_cg (q4 (by omega) (by omega) (by omega)) rfl, ⟨va_up f k o, h1', fun j hj => ?_⟩, GPg_cg (q6 (by omega)) (fun _ _ => ⟨rfl, fun _ => rfl⟩), GDr_cg (q7 (by omega) (by omega) (by omega) (by omega)) rfl, h.2.2.2.2.2.2.2⟩
  · rw [gCell_cg (A := A) (A' := (A.1, A.2.1, va_up A.2.2.1 k q, A.2.2.2)) rfl]; exact q1 (by omega)
  · show match va_up A.2.2.1 k q j with | none => va_up f k o j = none | some q => _
    by_cases e : j = k
    · rw [e, vup_at, vup_at]
      cases q with
      | none => exact ho
      | some q =>
        obtain ⟨a, a1, a2⟩ := ho
        exact ⟨a, a1, oc_mv a2 e1 (tk_0 ht)⟩
    · rw [vup_ne e, vup_ne e]
      have := h2 j hj
      have e9 : aRd A j = A.2.2.1 j := rfl
      rw [e9] at this
      cases hd : A.2.2.1 j with
      | none => rw [hd] at this; exact this
      | some q9 =>
        rw [hd] at this
        obtain ⟨a, a1, a2⟩ := this
        exact ⟨a, a1, oc_mv a2 e1 (tk_0 ht)⟩
theorem k_open {n : Nat} (h : GR κ B bd σ ω t g c A) (hT : KT κ) (hF : 64 ≤ F) (ht : 0 < t) (hw : WF n A) :
    ∃ σ' ω' c', f_X3_open κ F (some g) σ = some (outE (spOpen A) eIS eIS, σ') ∧ ext (gT t) 10 60 σ ω σ' ω' ∧ GR κ B bd σ' ω' t g c' (gOf A (spOpen A)) := by
  have h2 := k_open2 (F := F) h 4 F 0 (by omega) (by omega)
  have hle := fcl_le A 4 0
  have h0 : f_X3_open κ F (some g) σ = f_X3_open_22 κ F (some g) (Int32.ofNat (fcl A 0 4)) σ := by
    rw [f_X3_open, f_X3_open_0]
    exact h2
  unfold spOpen
  rw [h0]
  generalize fcl A 0 4 = k at hle ⊢
  rw [f_X3_open_22]
  by_cases hk : k < 4
  · have hω : ∀ b, σ.2.1 ≤ b → own ω σ.2.1 0 b = 0 := own_all
    obtain ⟨p1, p2⟩ := push_oc (κ := κ) hω (k_base h) (.inr (5, g0_X10)) 2
    have e0 := own_w p2
    have h1 := GR_n h e0
    have s1 := oc_pf (v := .int (nowC A)) p1 (show 0 < g0_X10.length by decide)
    have p3 := oc_up p1 (.inr (5, g0_X10.set 0 (.int (nowC A))))
    have s2 := oc_pf (v := .int (Int32.ofNat (nowD A))) p3 (show 1 < (g0_X10.set 0 (.int (nowC A))).length by rw [List.length_set]; decide)
    have p4 := oc_up p3 (.inr (5, (g0_X10.set 0 (.int (nowC A))).set 1 (.int (Int32.ofNat (nowD A)))))
    have e1 : ext nT 1 2 σ ω (gup (gup (gpush σ (.inr (5, g0_X10)) 2) σ.2.1 (.inr (5, g0_X10.set 0 (.int (nowC A))))) σ.2.1 (.inr (5, (g0_X10.set 0 (.int (nowC A))).set 1 (.int (Int32.ofNat (nowD A)))))) (own ω σ.2.1 0) := fresh_gup (fresh_gup e0 (Nat.le_refl _)) (Nat.le_refl _)
    have hG2 := GR_n h e1
    have hs : f_X10_init κ F (some σ.2.1) (nowC A) (Int32.ofNat (nowD A)) (gpush σ (.inr (5, g0_X10)) 2) = some ((), gup (gup (gpush σ (.inr (5, g0_X10)) 2) σ.2.1 (.inr (5, g0_X10.set 0 (.int (nowC A))))) σ.2.1 (.inr (5, (g0_X10.set 0 (.int (nowC A))).set 1 (.int (Int32.ofNat (nowD A)))))) := by
      rw [f_X10_init, f_X10_init_0, gsm_s, gB1_s, s1, gB1_s, s2, gB1_s]
    generalize gup (gup (gpush σ (.inr (5, g0_X10)) 2) σ.2.1 (.inr (5, g0_X10.set 0 (.int (nowC A))))) σ.2.1 (.inr (5, (g0_X10.set 0 (.int (nowC A))).set 1 (.int (Int32.ofNat (nowD A))))) = S2 at p4 e1 hG2 hs
    obtain ⟨S3, r1, e3, r3⟩ := k_setRd ht hG2 hk (some σ.2.1) (some (nowC A, nowD A)) ⟨_, rfl, p4⟩
    rw [if_neg (show ¬ (4 : Int32) ≤ Int32.ofNat k from by rw [L4, i3_le (by omega) (by omega)]; omega), f_X3_open_32, k_reqState hT (b := true) (i := 36) (x := 1) (by decide) (by decide) rfl, if_pos rfl, if_pos rfl, gB3_l, k_f5 h, gB1_s, gnw, gB2_s, k_ck h1, gB1_s, k_now h1, gB2_s, k_nowI h1, gB1_s, k_ck h1, gB1_s, k_now h1, gB2_s, k_nowD h1 hw.1.1, gB1_s, gsm_s, gB1_s, hs, gB2_s, r1, gB1_s, if_pos hk]
    exact ⟨S3, own ω σ.2.1 0, c, rfl, ext_mono (ext_trans (nT_le e1 (Nat.le_refl _) (Nat.le_refl _)) (ext_mono e3 (gT_k (t := t) (k := 9) (by omega)) (Nat.le_refl _) (Nat.le_refl _))) (fun _ h => h) (by omega) (by omega), r3⟩
  · have hk4 : k = 4 := by omega
    subst hk4
    rw [if_pos (by decide), f_X3_open_32, k_reqState hT (b := false) (i := 36) (x := 0) (by decide) (by decide) rfl]
    exact ⟨gthr σ, ω, c, rfl, nT_le (thr_ext σ ω) (by omega) (by omega), GR_n h (thr_ext σ ω)⟩
theorem k_close {n : Nat} (h : GR κ B bd σ ω t g c A) (hK : KS κ) (hT : KT κ) (hF : 64 ≤ F) (ht : 0 < t) (hw : WF n A) (r : Int32) :
    ∃ σ' ω' c', f_X3_close κ F (some g) r σ = some (outE (spClose A r) eIX eIS, σ') ∧ ext (gT t) 10 60 σ ω σ' ω' ∧ GR κ B bd σ' ω' t g c' (gOf A (spClose A r)) := by
  unfold spClose
  rw [f_X3_close, f_X3_close_0, k_reqReader hT]
  cases c1 : inR r 0 3 with
  | false => exact ⟨gthr σ, ω, c, rfl, nT_le (thr_ext σ ω) (by omega) (by omega), GR_n h (thr_ext σ ω)⟩
  | true =>
    obtain ⟨k, hk, rfl⟩ := inR_nat (b := 3) (by omega) c1
    have hk4 : k < 4 := by omega
    rw [if_pos rfl, if_pos rfl, gB3_l, k_ck h, gB1_s, k_reqOpen h hT hk4, (i3_ok (k := k) (by omega)).2]
    cases ho : (aRd A k).isSome with
    | false => exact ⟨gthr σ, ω, c, rfl, nT_le (thr_ext σ ω) (by omega) (by omega), GR_n h (thr_ext σ ω)⟩
    | true =>
      obtain ⟨S1, r1, e1, r3⟩ := k_setRd ht h hk4 none none rfl
      rw [if_pos rfl, if_pos rfl, gB3_l, k_ck h, gB1_s, k_diggable h hK (by omega), gB2_s, k_f5 h, gB1_s, r1, gB1_s, k_ck r3, gB1_s, k_diggable r3 hK (by omega), gB2_s]
      exact ⟨S1, ω, c, rfl, ext_mono e1 (gT_k (t := t) (k := 9) (by omega)) (by omega) (by omega), r3⟩
end C
