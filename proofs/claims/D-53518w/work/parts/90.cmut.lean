/-! the component: the steps of a change -/
theorem gT_k {t k : Nat} (hk : k ≤ 15) : ∀ x, x = t + k → gT t x := fun x hx => ⟨by omega, by omega⟩
theorem gT_0 {t : Nat} (ht : 0 < t) : ¬ gT t 0 := fun h => by have := h.1; omega
theorem gCell_cg {bd : Nat} {c : gA} {A A' : aG} (h : A'.2.2.2.2 = A.2.2.2.2) : gCell bd c A' = gCell bd c A := by unfold gCell aCm aLs; rw [h]
theorem GRt_cg {κ : gK} {σ : gS} {ω : Nat → Nat} {t a r0 r1 : Nat} {A A' : aG} (h : GRt κ σ ω t a r0 r1 A) (e : A'.2.1 = A.2.1) : GRt κ σ ω t a r0 r1 A' := by unfold GRt aRt at h ⊢; rw [e]; exact h
theorem GRd_cg {κ : gK} {σ : gS} {ω : Nat → Nat} {t a : Nat} {A A' : aG} (h : GRd κ σ ω t a A) (e : A'.2.2.1 = A.2.2.1) : GRd κ σ ω t a A' := by unfold GRd aRd at h ⊢; rw [e]; exact h
theorem GFw_cg {κ : gK} {σ : gS} {ω : Nat → Nat} {t a : Nat} {A A' : aG} (h : GFw κ σ ω t a A) (e : ∀ b, b < 32 → aFw A' b = aFw A b) : GFw κ σ ω t a A' := by
  obtain ⟨f, h1, h2⟩ := h; exact ⟨f, h1, fun b hb => by rw [e b hb]; exact h2 b hb⟩
theorem GSt_cg {κ : gK} {σ : gS} {ω : Nat → Nat} {t a : Nat} {A A' : aG} (h : GSt κ σ ω t a A) (e : ∀ b, b < 32 → aSt A' b = aSt A b) : GSt κ σ ω t a A' := by
  obtain ⟨f, h1, h2⟩ := h; exact ⟨f, h1, fun b hb => by rw [e b hb]; exact h2 b hb⟩
theorem GPg_cg {κ : gK} {B : Nat → Nat} {σ : gS} {ω : Nat → Nat} {t a : Nat} {A A' : aG} (h : GPg κ B σ ω t a A) (e : ∀ b, b < 32 → aSt A' b = aSt A b ∧ (aSt A b ≠ 0 → aPg A' b = aPg A b)) : GPg κ B σ ω t a A' := by
  obtain ⟨L, h1, h2⟩ := h
  refine ⟨L, h1, fun b hb => ?_⟩
  have h3 := h2 b hb
  obtain ⟨e1, e2⟩ := e b hb
  rw [e1]
  by_cases c : aSt A b = 0
  · rw [if_pos c] at h3 ⊢; exact h3
  · rw [if_neg c] at h3 ⊢; rw [e2 c]; exact h3
theorem GDr_cg {κ : gK} {B : Nat → Nat} {σ : gS} {ω : Nat → Nat} {t : Nat} {dr : Option Nat} {A A' : aG} (h : GDr κ B σ ω t dr A) (e : aDr A' = aDr A) : GDr κ B σ ω t dr A' := by unfold GDr at h ⊢; rw [e]; exact h
section C
variable {κ : gK} {B : Nat → Nat} {bd : Nat} {F : Nat} {σ : gS} {ω : Nat → Nat} {t g : Nat} {c : gA} {A : aG}
theorem gokR_s {s : Nat} (hs : s < 3) : gokR κ σ 4 (κ.2 s) := by
  unfold gokR
  cases h : κ.2 s with
  | none => trivial
  | some b =>
    refine Or.inr ⟨rfl, ?_⟩
    match s, hs with
    | 0, _ => exact Or.inl h.symm
    | 1, _ => exact Or.inr (Or.inl h.symm)
    | 2, _ => exact Or.inr (Or.inr h.symm)
/-- a state is written -/
theorem k_setSt {a : Nat} (h : GSt κ σ ω (t + 4) a A) {b s : Nat} (hb : b < 32) (hs : s < 3) : ∃ σ', gsR κ σ (some a) (Int32.ofNat b) (κ.2 s) = some σ' ∧ ext (fun x => x = t + 4) 0 0 σ ω σ' ω ∧ ∀ A' : aG, (∀ b', b' < 32 → aSt A' b' = if b' = b then s else aSt A b') → GSt κ σ' ω (t + 4) a A' := by
  obtain ⟨f, h1, h2⟩ := h
  refine ⟨_, oc_sR h1 (by omega) hb (by omega) (gokR_s hs), oc_ext_up h1 _ _ rfl, fun A' hA => ⟨va_up f b (κ.2 s), oc_up h1 _, fun b' hb' => ?_⟩⟩
  rw [hA b' hb']
  by_cases e : b' = b
  · rw [if_pos e, e, vup_at]
  · rw [if_neg e, vup_ne e]; exact h2 b' hb'
theorem m_f0 (h : oc κ σ ω t g (gCell bd c A)) : gfR σ (some g) 7 0 = some (some (c_pg c)) := by rw [gfR_u, h.1]; rfl
theorem m_f1 (h : oc κ σ ω t g (gCell bd c A)) : gfR σ (some g) 7 1 = some (some (c_st c)) := by rw [gfR_u, h.1]; rfl
theorem m_f2 (h : oc κ σ ω t g (gCell bd c A)) : gfR σ (some g) 7 2 = some (some bd) := by rw [gfR_u, h.1]; rfl
theorem m_f3 (h : oc κ σ ω t g (gCell bd c A)) : gfR σ (some g) 7 3 = some (some (c_fw c)) := by rw [gfR_u, h.1]; rfl
theorem m_f6 (h : oc κ σ ω t g (gCell bd c A)) : gfR σ (some g) 7 6 = some (c_dr c) := by rw [gfR_u, h.1]; exact gvR_rf _
theorem m_ck (h : oc κ σ ω t g (gCell bd c A)) : gck σ (some g) 7 = some () := by rw [gck_u, h.1]; rfl
theorem LM_ck {m : Nat} {L : List mE} (h : LM κ B σ ω t m L) : gck σ (some m) 10 = some () := by obtain ⟨tb, ks, md, th, n, hm, _⟩ := h; rw [gck_u, hm.1]; rfl
theorem gcm_n (σ : gS) (cs : List Nat) : gcm σ none cs = some () := rfl
/-- a page is put into the map of the pages -/
theorem k_layR (hg : oc κ σ ω t g (gCell bd c A)) (hB : BD κ B bd σ ω) (hF : 64 ≤ F) {L : List mE} (hL : LM κ B σ ω (t + 1) (c_pg c) L) {b a : Nat} (hb : b < 32) (hv : vls L b = none ∨ ∃ a0 p0, vls L b = some (some a0) ∧ PG κ σ ω a0 p0) :
    ∃ σ' ω' L', f_X3_lay κ F (some g) (Int32.ofNat b) (some a) σ = some ((), σ') ∧ ext (fun x => x = t + 1) 3 86 σ ω σ' ω' ∧ LM κ B σ' ω' (t + 1) (c_pg c) L' ∧ ∀ j, vls L' j = if j = b then some (some a) else vls L j := by
  have e0 := ext_own nT σ ω (t + 1)
  have hB' := BD_n hB e0
  have hL' := LM_mv hL e0 (fun h => h) (fun h => h)
  obtain ⟨σ', L', q1, q2, q3, q4, q5⟩ := p_put (F := F) (v := some a) hF hB'.1 hL' (by omega) (fun b hb => own_new hb) hb
  have e1 : ext (fun x => x = t + 1) 3 86 σ ω σ' (own ω σ.2.1 (t + 1)) := ext_mono (ext_trans (ext_mono e0 (fun _ h => h.elim) (Nat.le_refl _) (Nat.le_refl _)) q2) (fun _ h => h) (by omega) (by omega)
  refine ⟨σ', _, L', ?_, e1, q3, q4⟩
  rw [f_X3_lay, f_X3_lay_0, m_f0 hg, gB1_s, m_f2 hg, gB1_s, k_bd hB hb, gB1_s, LM_ck hL, gB1_s, q1, gB2_s]
  rcases hv with e | ⟨a0, p0, e, hp⟩
  · rw [e]
    show gB1 (gcm σ' none [2, 3]) _ = _
    rw [gcm_n, gB1_s]
  · rw [e]
    show gB1 (gcm σ' (some a0) [2, 3]) _ = _
    rw [PG_cm (PG_mv hp e1 (by omega)), gB1_s]
theorem GPg_hv (h : GPg κ B σ ω t (c_pg c) A) : ∃ L, LM κ B σ ω (t + 1) (c_pg c) L ∧ (∀ b, b < 32 → vls L b = none ∨ ∃ a0 p0, vls L b = some (some a0) ∧ PG κ σ ω a0 p0) ∧ ∀ b, b < 32 → if aSt A b = 0 then vls L b = none else ∃ a, vls L b = some (some a) ∧ PG κ σ ω a (aPg A b) := by
  obtain ⟨L, h1, h2⟩ := h
  refine ⟨L, h1, fun b hb => ?_, h2⟩
  have h3 := h2 b hb
  by_cases e : aSt A b = 0
  · rw [if_pos e] at h3; exact Or.inl h3
  · rw [if_neg e] at h3
    obtain ⟨a, a1, a2⟩ := h3
    exact Or.inr ⟨a, _, a1, a2⟩
/-- a bed more in a set -/
theorem k_add {u s : Nat} {p : Nat → Bool} (hB : BD κ B bd σ ω) (hF : 64 ≤ F) (hs : GSet κ B σ ω u t s p) (ht : 0 < t) (hut : u ≠ t) {b : Nat} (hb : b < 32) : ∃ r σ' ω', f_J27_add κ F (some s) (some (B b)) σ = some (r, σ') ∧ ext (fun x => x = t) 3 86 σ ω σ' ω' ∧ GSet κ B σ' ω' u t s (va_up p b true) ∧ gck σ (some s) 12 = some () := by
  obtain ⟨m, L, s1, s2, s3⟩ := hs
  have e0 := ext_own nT σ ω t
  have hB' := BD_n hB e0
  have s2' := LM_mv s2 e0 (fun h => h) (fun h => h)
  obtain ⟨r, σ', L', q1, q2, q3, q4, q5⟩ := p_add (F := F) hF hB'.1 s1.1 s2' (by omega) (fun b hb => own_new hb) hb
  have e1 : ext (fun x => x = t) 3 86 σ ω σ' (own ω σ.2.1 t) := ext_mono (ext_trans (ext_mono e0 (fun _ h => h.elim) (Nat.le_refl _) (Nat.le_refl _)) q2) (fun _ h => h) (by omega) (by omega)
  refine ⟨r, σ', _, q1, e1, ⟨m, L', oc_mv s1 e1 hut, q3, fun j hj => ?_⟩, set_ck s1⟩
  · have h1 : ∀ (L : List mE) j, (vls L j).isSome = (fnd j L).isSome := fun L j => by unfold vls; cases fnd j L <;> rfl
    rw [← h1, q4]
    by_cases e : j = b
    · rw [if_pos e, e, vup_at]; rfl
    · rw [if_neg e, vup_ne e, h1]; exact s3 j hj
/-- a bed less in a set -/
theorem k_srem {u s : Nat} {p : Nat → Bool} (hB : BD κ B bd σ ω) (hF : 64 ≤ F) (hs : GSet κ B σ ω u t s p) (ht : 0 < t) (hut : u ≠ t) {b : Nat} (hb : b < 32) : ∃ r σ', f_J27_remove κ F (some s) (some (B b)) σ = some (r, σ') ∧ ext (fun x => x = t) 0 0 σ ω σ' ω ∧ GSet κ B σ' ω u t s (va_up p b false) ∧ gck σ (some s) 12 = some () := by
  obtain ⟨m, L, s1, s2, s3⟩ := hs
  obtain ⟨r, σ', q1, q2, q3⟩ := p_sremove (F := F) hF hB.1 s1.1 s2 (by omega) hb
  refine ⟨r, σ', q1, q2, ⟨m, rm b L, oc_mv s1 q2 hut, q3, fun j hj => ?_⟩, set_ck s1⟩
  rw [fnd_rm]
  by_cases e : j = b
  · rw [if_pos e, e, vup_at]; rfl
  · rw [if_neg e, vup_ne e]; exact s3 j hj
/-- how a dig leaves the heap -/
theorem k_dig (h : GR κ B bd σ ω t g c A) (hB : BD κ B bd σ ω) (hK : KS κ) (hT : KT κ) (hF : 64 ≤ F) (ht : 0 < t) {d : aD} (hd : aDr A = some d) {a b : Nat} {p : Pg} (hn : next A = some b) (hp : PG κ σ ω a p) :
    ∃ σ' ω', f_X3_dig κ F (some g) (some a) σ = some (.inl (Int32.ofNat b), σ') ∧ ext (gT t) 6 172 σ ω σ' ω' ∧ GR κ B bd σ' ω' t g c (digA A b p) := by
  have hb := (next_1 hn).1
  have hnx := k_nextBed (F := F) h hK (by omega)
  rw [hn] at hnx
  have hne : ¬ negT (some b) = (-1000 : Int32) := fun e => by have := (negT_n (o := some b) (fun c hc => by cases hc; exact hb)).mp e; cases this
  obtain ⟨S1, g1, e1, st1⟩ := k_setSt (κ := κ) h.2.1 hb (show 1 < 3 by decide)
  have nt0 : ¬ ((fun x => x = t + 4) 0) := fun e => by have e : 0 = t + 4 := e; omega
  have ne : ∀ k, k ≤ 11 → k ≠ 4 → ¬ ((fun x => x = t + 4) (t + k)) := fun k _ hk e => by have e : t + k = t + 4 := e; omega
  have hg1 := oc_mv h.1 e1 (ne 0 (by omega) (by omega))
  have hB1 := BD_mv hB e1 nt0
  obtain ⟨L, l1, l2, l3⟩ := GPg_hv h.2.2.2.2.2.1
  have l1' := LM_mv l1 e1 (ne 1 (by omega) (by omega)) nt0
  have hp1 := PG_mv hp e1 nt0
  have hv1 : vls L b = none ∨ ∃ a0 p0, vls L b = some (some a0) ∧ PG κ S1 ω a0 p0 := by
    rcases l2 b hb with e | ⟨a0, p0, e, ep⟩
    · exact Or.inl e
    · exact Or.inr ⟨a0, p0, e, PG_mv ep e1 nt0⟩
  obtain ⟨S2, ω2, L2, y1, e2, y3, y4⟩ := k_layR (F := F) (a := a) hg1 hB1 hF l1' hb hv1
  have nu0 : ¬ ((fun x => x = t + 1) 0) := fun e => by have e : 0 = t + 1 := e; omega
  have nu : ∀ k, k ≤ 11 → k ≠ 1 → ¬ ((fun x => x = t + 1) (t + k)) := fun k _ hk e => by have e : t + k = t + 1 := e; omega
  have hg2 := oc_mv hg1 e2 (nu 0 (by omega) (by omega))
  have hB2 := BD_mv hB1 e2 nu0
  obtain ⟨da, fs, ls, c1, c2, c3, c4⟩ := k_dr h hd
  have c2' := oc_mv (oc_mv c2 e1 (ne 10 (by omega) (by omega))) e2 (nu 10 (by omega) (by omega))
  have c3' := GSet_mv (GSet_mv c3 e1 (ne 11 (by omega) (by omega)) (ne 2 (by omega) (by omega)) nt0) e2 (nu 11 (by omega) (by omega)) (nu 2 (by omega) (by omega)) nu0
  have c4' := GSet_mv (GSet_mv c4 e1 (ne 11 (by omega) (by omega)) (ne 3 (by omega) (by omega)) nt0) e2 (nu 11 (by omega) (by omega)) (nu 3 (by omega) (by omega)) nu0
  obtain ⟨r, S3, ω3, z1, e3, z3, z4⟩ := k_add (F := F) hB2 hF c3' (show 0 < t + 2 by omega) (by omega) hb
  have nw0 : ¬ ((fun x => x = t + 2) 0) := fun e => by have e : 0 = t + 2 := e; omega
  have nw : ∀ k, k ≤ 11 → k ≠ 2 → ¬ ((fun x => x = t + 2) (t + k)) := fun k _ hk e => by have e : t + k = t + 2 := e; omega
  have E1 := ext_mono e1 (gT_k (by omega)) (Nat.le_refl _) (Nat.le_refl _)
  have E2 := ext_mono e2 (gT_k (by omega)) (Nat.le_refl _) (Nat.le_refl _)
  have E3 := ext_mono e3 (gT_k (by omega)) (Nat.le_refl _) (Nat.le_refl _)
  have i := k_drI c2'
  refine ⟨S3, ω3, ?_, ext_mono (ext_trans (ext_trans E1 E2) E3) (fun _ h => h) (by omega) (by omega), ?_⟩
  · rw [f_X3_dig, f_X3_dig_0, k_ck h, gB1_s, hnx, gB2_s, if_neg hne, f_X3_dig_17, k_reqState hT (b := true) (i := 26) (x := 1) (by decide) (by decide) rfl, if_pos rfl, if_pos rfl, gB3_l, k_f1 h, gB1_s]
    show gB1 (gsR κ σ (some (c_st c)) (Int32.ofNat b) (κ.2 1)) _ = _
    rw [g1, gB1_s, m_ck hg1, gB1_s]
    show gB2 (f_X3_lay κ F (some g) (Int32.ofNat b) (some a) S1) _ = _
    rw [y1, gB2_s, m_f6 hg2, c1, gB1_s, i.2.1, gB1_s, m_f2 hg2, gB1_s]
    show gB1 (gaR S2 (some bd) (Int32.ofNat b)) _ = _
    rw [k_bd hB2 hb, gB1_s, z4, gB1_s, z1, gB2_s]
    rfl
  · have hA := digA_1 A b p
    have hst : ∀ b', b' < 32 → aSt (digA A b p) b' = if b' = b then 1 else aSt A b' := fun b' _ => by
      unfold aSt; rw [digA_11]; by_cases e : b' = b
      · rw [if_pos e, if_pos e]
      · rw [if_neg e, if_neg e]
    have hfw : ∀ b', b' < 32 → aFw (digA A b p) b' = aFw A b' := fun b' _ => by
      unfold aFw; rw [digA_11]; by_cases e : b' = b
      · rw [if_pos e, e]
      · rw [if_neg e]
    refine ⟨?_, GSt_mv (GSt_mv (st1 _ hst) e2 (nu 4 (by omega) (by omega))) e3 (nw 4 (by omega) (by omega)), GFw_cg (GFw_mv (GFw_mv (GFw_mv h.2.2.1 e1 (ne 5 (by omega) (by omega))) e2 (nu 5 (by omega) (by omega))) e3 (nw 5 (by omega) (by omega))) hfw, ?_, ?_, ⟨L2, LM_mv y3 e3 (nw 1 (by omega) (by omega)) nw0, fun b' hb' => ?_⟩, ?_, fun b' hb' => ?_⟩
    · rw [gCell_cg hA.2.2.2]
      exact oc_mv hg2 e3 (nw 0 (by omega) (by omega))
    · exact GRt_cg (GRt_mv (GRt_mv (GRt_mv h.2.2.2.1 e1 (ne 6 (by omega) (by omega)) (ne 7 (by omega) (by omega)) (ne 8 (by omega) (by omega))) e2 (nu 6 (by omega) (by omega)) (nu 7 (by omega) (by omega)) (nu 8 (by omega) (by omega))) e3 (nw 6 (by omega) (by omega)) (nw 7 (by omega) (by omega)) (nw 8 (by omega) (by omega))) hA.2.1
    · exact GRd_cg (GRd_mv (GRd_mv (GRd_mv h.2.2.2.2.1 e1 (ne 9 (by omega) (by omega)) nt0) e2 (nu 9 (by omega) (by omega)) nu0) e3 (nw 9 (by omega) (by omega)) nw0) hA.2.2.1
    · rw [hst b' hb', y4]
      by_cases e : b' = b
      · subst e
        have hpg : aPg (digA A b' p) b' = p := by unfold aPg; rw [digA_11, if_pos rfl]
        rw [if_pos rfl, if_neg (by decide), if_pos rfl, hpg]
        exact ⟨a, rfl, PG_mv (PG_mv hp1 e2 nu0) e3 nw0⟩
      · have hpg : aPg (digA A b p) b' = aPg A b' := by unfold aPg; rw [digA_11, if_neg e]
        rw [if_neg e, if_neg e, hpg]
        have h3 := l3 b' hb'
        by_cases e0 : aSt A b' = 0
        · rw [if_pos e0] at h3 ⊢; exact h3
        · rw [if_neg e0] at h3 ⊢
          obtain ⟨x, x1, x2⟩ := h3
          exact ⟨x, x1, PG_mv (PG_mv (PG_mv x2 e1 nt0) e2 nu0) e3 nw0⟩
    · unfold GDr
      rw [digA_d hd b p]
      exact ⟨da, fs, ls, c1, oc_mv c2' e3 (nw 10 (by omega) (by omega)), z3, GSet_mv c4' e3 (nw 11 (by omega) (by omega)) (nw 3 (by omega) (by omega)) nw0⟩
    · rw [hst b' hb']
      split
      · decide
      · exact h.2.2.2.2.2.2.2 b' hb'
end C
