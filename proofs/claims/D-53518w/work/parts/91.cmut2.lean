/-! the component: more steps -/
theorem tk_0 {t k : Nat} (h : 0 < t) : ¬ ((fun x => x = t + k) 0) := fun e => by have e : 0 = t + k := e; omega
theorem tk_n {t k j : Nat} (h : j ≠ k) : ¬ ((fun x => x = t + k) (t + j)) := fun e => by have e : t + j = t + k := e; omega
section C
variable {κ : gK} {B : Nat → Nat} {bd : Nat} {F : Nat} {σ : gS} {ω : Nat → Nat} {t g : Nat} {c : gA} {A : aG}
/-- what rides when one kind of a garden's cells is written -/
theorem GR_k {k n m : Nat} {σ' : gS} {ω' : Nat → Nat} (ht : 0 < t) (h : GR κ B bd σ ω t g c A) (e : ext (fun x => x = t + k) n m σ ω σ' ω') :
    (k ≠ 0 → oc κ σ' ω' t g (gCell bd c A)) ∧ (k ≠ 4 → GSt κ σ' ω' (t + 4) (c_st c) A) ∧ (k ≠ 5 → GFw κ σ' ω' (t + 5) (c_fw c) A) ∧ (k ≠ 6 → k ≠ 7 → k ≠ 8 → GRt κ σ' ω' t (c_rt c) (c_r0 c) (c_r1 c) A) ∧ (k ≠ 9 → GRd κ σ' ω' (t + 9) (c_rd c) A) ∧ (k ≠ 1 → GPg κ B σ' ω' t (c_pg c) A) ∧ (k ≠ 10 → k ≠ 2 → k ≠ 3 → k ≠ 11 → GDr κ B σ' ω' t (c_dr c) A) := by
  obtain ⟨a1, a2, a3, a4, a5, a6, a7, a8⟩ := h
  exact ⟨fun hk => oc_mv a1 e (tk_n (j := 0) (fun e => hk e.symm)), fun hk => GSt_mv a2 e (tk_n (fun e => hk e.symm)), fun hk => GFw_mv a3 e (tk_n (fun e => hk e.symm)), fun h6 h7 h8 => GRt_mv a4 e (tk_n (fun e => h6 e.symm)) (tk_n (fun e => h7 e.symm)) (tk_n (fun e => h8 e.symm)), fun hk => GRd_mv a5 e (tk_n (fun e => hk e.symm)) (tk_0 ht), fun hk => GPg_mv a6 e (tk_n (fun e => hk e.symm)) (tk_0 ht), fun h10 h2 h3 h11 => GDr_mv a7 e (tk_n (fun e => h10 e.symm)) (tk_n (fun e => h2 e.symm)) (tk_n (fun e => h3 e.symm)) (tk_n (fun e => h11 e.symm)) (tk_0 ht)⟩
/-- a page is laid in a bed that has one -/
theorem k_layA (h : GR κ B bd σ ω t g c A) (hB : BD κ B bd σ ω) (hF : 64 ≤ F) (ht : 0 < t) {a b : Nat} {p : Pg} (hb : b < 32) (hs : aSt A b ≠ 0) (hp : PG κ σ ω a p) :
    ∃ σ' ω', f_X3_lay κ F (some g) (Int32.ofNat b) (some a) σ = some ((), σ') ∧ ext (fun x => x = t + 1) 3 86 σ ω σ' ω' ∧ GR κ B bd σ' ω' t g c (layA A b p) := by
  obtain ⟨L, l1, l2, l3⟩ := GPg_hv h.2.2.2.2.2.1
  obtain ⟨σ', ω', L', y1, e, y3, y4⟩ := k_layR (F := F) (a := a) h.1 hB hF l1 hb (l2 b hb)
  obtain ⟨q1, q2, q3, q4, q5, q6, q7⟩ := GR_k ht h e
  have hst : ∀ b', aSt (layA A b p) b' = aSt A b' := fun b' => (layA_st A b b' p).1
  refine ⟨σ', ω', y1, e, ?_, GSt_cg (q2 (by omega)) (fun b' _ => hst b'), GFw_cg (q3 (by omega)) (fun b' _ => (layA_st A b b' p).2), GRt_cg (q4 (by omega) (by omega) (by omega)) rfl, GRd_cg (q5 (by omega)) rfl, ⟨L', y3, fun b' hb' => ?_⟩, GDr_cg (q7 (by omega) (by omega) (by omega) (by omega)) rfl, fun b' hb' => by rw [hst]; exact h.2.2.2.2.2.2.2 b' hb'⟩
  · rw [gCell_cg (A := A) (A' := layA A b p) rfl]; exact q1 (by omega)
  · rw [hst, y4]
    by_cases e1 : b' = b
    · subst e1
      have hpg : aPg (layA A b' p) b' = p := by unfold aPg; rw [layA_1, if_pos rfl]
      rw [if_neg hs, if_pos rfl, hpg]
      exact ⟨a, rfl, PG_mv hp e (tk_0 ht)⟩
    · have hpg : aPg (layA A b p) b' = aPg A b' := by unfold aPg; rw [layA_1, if_neg e1]
      rw [if_neg e1, hpg]
      have h3 := l3 b' hb'
      by_cases e0 : aSt A b' = 0
      · rw [if_pos e0] at h3 ⊢; exact h3
      · rw [if_neg e0] at h3 ⊢
        obtain ⟨x, x1, x2⟩ := h3
        exact ⟨x, x1, PG_mv x2 e (tk_0 ht)⟩
theorem k_setDir (h : GR κ B bd σ ω t g c A) (hB : BD κ B bd σ ω) (hF : 64 ≤ F) (ht : 0 < t) {d : aD} (hd : aDr A = some d) {a : Nat} {p : Pg} (hb : d.2.2 < 32) (hs : aSt A d.2.2 ≠ 0) (hp : PG κ σ ω a p) :
    ∃ σ' ω', f_X3_setDirectory κ F (some g) (some a) σ = some ((), σ') ∧ ext (fun x => x = t + 1) 3 86 σ ω σ' ω' ∧ GR κ B bd σ' ω' t g c (layA A d.2.2 p) := by
  obtain ⟨da, fs, ls, c1, c2, c3, c4⟩ := k_dr h hd
  obtain ⟨σ', ω', q1, q2, q3⟩ := k_layA (F := F) h hB hF ht hb hs hp
  exact ⟨σ', ω', by rw [f_X3_setDirectory, f_X3_setDirectory_0, k_f6 h, c1, gB1_s, (k_drI c2).2.2.2, gB1_s, k_ck h, gB1_s, q1, gB2_s], q2, q3⟩
/-- a bed is wild -/
def wB (A : aG) (b : Nat) : aG := setB A b (0, aPg A b, aFw A b)
theorem wB_1 (A : aG) (b c : Nat) : (wB A b).1 c = if c = b then (0, aPg A b, aFw A b) else A.1 c := rfl
theorem k_makeWild (h : GR κ B bd σ ω t g c A) (hB : BD κ B bd σ ω) (hF : 64 ≤ F) (ht : 0 < t) {b : Nat} (hb : b < 32) :
    ∃ σ', f_X3_makeWild κ F (some g) (Int32.ofNat b) σ = some ((), σ') ∧ ext (fun x => x = t + 4 ∨ x = t + 1) 0 0 σ ω σ' ω ∧ GR κ B bd σ' ω t g c (wB A b) := by
  obtain ⟨S1, g1, e1, st1⟩ := k_setSt (κ := κ) h.2.1 hb (show 0 < 3 by decide)
  obtain ⟨q1, q2, q3, q4, q5, q6, q7⟩ := GR_k ht h e1
  have hB1 := BD_mv hB e1 (tk_0 ht)
  obtain ⟨L, l1, l2, l3⟩ := GPg_hv (q6 (by omega))
  obtain ⟨S2, r1, e2, r3⟩ := p_remove (F := F) hF hB1.1 l1 (by omega) hb
  have hst : ∀ b', b' < 32 → aSt (wB A b) b' = if b' = b then 0 else aSt A b' := fun b' _ => by
    unfold aSt; rw [wB_1]; by_cases e : b' = b
    · rw [if_pos e, if_pos e]
    · rw [if_neg e, if_neg e]
  have hfw : ∀ b', b' < 32 → aFw (wB A b) b' = aFw A b' := fun b' _ => by
    unfold aFw; rw [wB_1]; by_cases e : b' = b
    · rw [if_pos e, e]
    · rw [if_neg e]
  have E1 : ext (fun x => x = t + 4 ∨ x = t + 1) 0 0 σ ω S1 ω := ext_mono e1 (fun _ h => Or.inl h) (Nat.le_refl _) (Nat.le_refl _)
  have E2 : ext (fun x => x = t + 4 ∨ x = t + 1) 0 0 S1 ω S2 ω := ext_mono e2 (fun _ h => Or.inr h) (Nat.le_refl _) (Nat.le_refl _)
  have t0 := tk_0 (k := 1) ht
  have tn : ∀ j, j ≠ 1 → ¬ ((fun x => x = t + 1) (t + j)) := fun j hj => tk_n hj
  refine ⟨S2, ?_, ext_trans E1 E2, ?_, GSt_mv (st1 _ hst) e2 (tn 4 (by omega)), GFw_cg (GFw_mv (q3 (by omega)) e2 (tn 5 (by omega))) hfw, GRt_cg (GRt_mv (q4 (by omega) (by omega) (by omega)) e2 (tn 6 (by omega)) (tn 7 (by omega)) (tn 8 (by omega))) rfl, GRd_cg (GRd_mv (q5 (by omega)) e2 (tn 9 (by omega)) t0) rfl, ⟨rm b L, r3, fun b' hb' => ?_⟩, GDr_cg (GDr_mv (q7 (by omega) (by omega) (by omega) (by omega)) e2 (tn 10 (by omega)) (tn 2 (by omega)) (tn 3 (by omega)) (tn 11 (by omega)) t0) rfl, fun b' hb' => ?_⟩
  · have hg1 := q1 (by omega)
    rw [f_X3_makeWild, f_X3_makeWild_0, k_f1 h, gB1_s, g1, gB1_s, m_f0 hg1, gB1_s, m_f2 hg1, gB1_s, k_bd hB1 hb, gB1_s, LM_ck l1, gB1_s, r1, gB2_s]
    rcases l2 b hb with e | ⟨a0, p0, e, ep⟩
    · rw [e]
      show gB1 (gcm S2 none [2, 3]) _ = _
      rw [gcm_n, gB1_s]
    · rw [e]
      show gB1 (gcm S2 (some a0) [2, 3]) _ = _
      rw [PG_cm (PG_mv ep e2 t0), gB1_s]
  · rw [gCell_cg (A := A) (A' := wB A b) rfl]; exact oc_mv (q1 (by omega)) e2 (tn 0 (by omega))
  · have hv : ∀ j, vls (rm b L) j = if j = b then none else vls L j := fun j => by
      unfold vls
      rw [fnd_rm]
      by_cases e : j = b
      · rw [if_pos e, if_pos e]; rfl
      · rw [if_neg e, if_neg e]
    rw [hst b' hb', hv]
    by_cases e1 : b' = b
    · rw [if_pos e1, if_pos rfl, if_pos e1]
    · have hpg : aPg (wB A b) b' = aPg A b' := by unfold aPg; rw [wB_1, if_neg e1]
      rw [if_neg e1, if_neg e1, hpg]
      have h3 := l3 b' hb'
      by_cases e0 : aSt A b' = 0
      · rw [if_pos e0] at h3 ⊢; exact h3
      · rw [if_neg e0] at h3 ⊢
        obtain ⟨x, x1, x2⟩ := h3
        exact ⟨x, x1, PG_mv x2 e2 t0⟩
  · rw [hst b' hb']
    split
    · decide
    · exact h.2.2.2.2.2.2.2 b' hb'
theorem GR_eq {A' : aG} (h : GR κ B bd σ ω t g c A) (e : A = A') : GR κ B bd σ ω t g c A' := by rw [← e]; exact h
theorem wB_upNew (A : aG) (b : Nat) : wB (upNew A b false) b = wildA A b := by
  have e1 := upNew_1 A b false
  have e2 := wildA_1 A b
  refine aG_ext (fun c => ?_) ?_
  · rw [wB_1, e2.1]
    have h1 : aPg (upNew A b false) b = aPg A b ∧ aFw (upNew A b false) b = aFw A b := by unfold aPg aFw; rw [e1.1]; exact ⟨rfl, rfl⟩
    rw [h1.1, h1.2, e1.1]
    rfl
  · show (upNew A b false).2 = (upNew (setB A b (0, aPg A b, aFw A b)) b false).2
    rw [upNew_2, upNew_2]
    rfl
theorem k_leave (h : GR κ B bd σ ω t g c A) (hB : BD κ B bd σ ω) (hF : 64 ≤ F) (ht : 0 < t) {d : aD} (hd : aDr A = some d) {b : Nat} (hb : b < 32) :
    ∃ σ' ω', f_X3_leave κ F (some g) (Int32.ofNat b) σ = some ((), σ') ∧ ext (gT t) 4 87 σ ω σ' ω' ∧ GR κ B bd σ' ω' t g c (leaveA A b) := by
  obtain ⟨da, fs, ls, c1, c2, c3, c4⟩ := k_dr h hd
  obtain ⟨S0, n1, n2⟩ := k_isNew (F := F) hB hF c2 c3 hb (k_base h)
  have h0 := GR_n h n2
  have hB0 := BD_n hB n2
  have c2' := oc_mv c2 n2 (fun h => h)
  have c3' := GSet_mv c3 n2 (fun h => h) (fun h => h) (fun h => h)
  have c4' := GSet_mv c4 n2 (fun h => h) (fun h => h) (fun h => h)
  have i := k_drI c2'
  have N2 : ext (gT t) 1 1 σ ω S0 ω := nT_le n2 (Nat.le_refl _) (Nat.le_refl _)
  unfold leaveA
  rw [isNew_d hd, f_X3_leave, f_X3_leave_0, k_f6 h, c1, gB1_s, (k_drI c2).1, gB1_s, n1, gB2_s]
  by_cases hn : d.1 b = true
  · obtain ⟨r, S1, z1, e1, z3, z4⟩ := k_srem (F := F) hB0 hF c3' (show 0 < t + 2 by omega) (by omega) hb
    obtain ⟨q1, q2, q3, q4, q5, q6, q7⟩ := GR_k ht h0 e1
    have u1 := upNew_1 A b false
    have h1 : GR κ B bd S1 ω t g c (upNew A b false) := by
      refine ⟨?_, GSt_cg (q2 (by omega)) (fun b' _ => by unfold aSt; rw [u1.1]), GFw_cg (q3 (by omega)) (fun b' _ => by unfold aFw; rw [u1.1]), GRt_cg (q4 (by omega) (by omega) (by omega)) u1.2.1, GRd_cg (q5 (by omega)) u1.2.2.1, GPg_cg (q6 (by omega)) (fun b' _ => by unfold aSt aPg; rw [u1.1]; exact ⟨rfl, fun _ => rfl⟩), ?_, fun b' hb' => by unfold aSt; rw [u1.1]; exact h.2.2.2.2.2.2.2 b' hb'⟩
      · rw [gCell_cg u1.2.2.2]; exact q1 (by omega)
      · have hdd : aDr (upNew A b false) = some (va_up d.1 b false, d.2) := by unfold upNew; rw [hd]; rfl
        unfold GDr
        rw [hdd]
        exact ⟨da, fs, ls, c1, oc_mv c2' e1 (tk_n (by omega)), z3, GSet_mv c4' e1 (tk_n (by omega)) (tk_n (by omega)) (tk_0 ht)⟩
    have hB1 := BD_mv hB0 e1 (tk_0 ht)
    obtain ⟨S2, w1, e2, w3⟩ := k_makeWild (F := F) h1 hB1 hF ht hb
    rw [if_pos hn, if_neg (by decide), if_pos hn, k_f6 h0, c1, gB1_s, i.2.1, gB1_s, k_f2 h0, gB1_s, k_bd hB0 hb, gB1_s, z4, gB1_s, z1, gB2_s, k_ck h1, gB1_s, w1, gB2_s, f_X3_leave_53]
    refine ⟨S2, ω, rfl, ?_, GR_eq w3 (wB_upNew A b)⟩
    refine ext_mono (ext_trans N2 (ext_trans (ext_mono e1 (gT_k (by omega)) (Nat.le_refl _) (Nat.le_refl _)) (ext_mono e2 (fun x hx => ?_) (Nat.le_refl _) (Nat.le_refl _)))) (fun _ h => h) (by omega) (by omega)
    rcases hx with hx | hx
    · exact gT_k (k := 4) (by omega) x hx
    · exact gT_k (k := 1) (by omega) x hx
  · obtain ⟨r, S1, ω1, z1, e1, z3, z4⟩ := k_add (F := F) hB0 hF c4' (show 0 < t + 3 by omega) (by omega) hb
    obtain ⟨q1, q2, q3, q4, q5, q6, q7⟩ := GR_k ht h0 e1
    have u1 := upLeft_1 A b true
    rw [if_neg hn, if_pos rfl, if_neg hn, k_f6 h0, c1, gB1_s, i.2.2.1, gB1_s, k_f2 h0, gB1_s, k_bd hB0 hb, gB1_s, z4, gB1_s, z1, gB2_s, f_X3_leave_53]
    refine ⟨S1, ω1, rfl, ext_mono (ext_trans N2 (ext_mono e1 (gT_k (by omega)) (Nat.le_refl _) (Nat.le_refl _))) (fun _ h => h) (by omega) (by omega), ?_, GSt_cg (q2 (by omega)) (fun b' _ => by unfold aSt; rw [u1.1]), GFw_cg (q3 (by omega)) (fun b' _ => by unfold aFw; rw [u1.1]), GRt_cg (q4 (by omega) (by omega) (by omega)) u1.2.1, GRd_cg (q5 (by omega)) u1.2.2.1, GPg_cg (q6 (by omega)) (fun b' _ => by unfold aSt aPg; rw [u1.1]; exact ⟨rfl, fun _ => rfl⟩), ?_, fun b' hb' => by unfold aSt; rw [u1.1]; exact h.2.2.2.2.2.2.2 b' hb'⟩
    · rw [gCell_cg u1.2.2.2]; exact q1 (by omega)
    · have hdd : aDr (upLeft A b true) = some (d.1, va_up d.2.1 b true, d.2.2) := by unfold upLeft; rw [hd]; rfl
      unfold GDr
      rw [hdd]
      exact ⟨da, fs, ls, c1, oc_mv c2' e1 (tk_n (by omega)), GSet_mv c3' e1 (tk_n (by omega)) (tk_n (by omega)) (tk_0 ht), z3⟩
theorem BD_T {T : Nat → Prop} {n m : Nat} {σ' : gS} {ω' : Nat → Nat} (ht : 0 < t) (hB : BD κ B bd σ ω) (e : ext (gT t) n m σ ω σ' ω') : BD κ B bd σ' ω' := BD_mv hB e (gT_0 ht)
theorem PG_T {n m : Nat} {σ' : gS} {ω' : Nat → Nat} {a : Nat} {p : Pg} (ht : 0 < t) (hp : PG κ σ ω a p) (e : ext (gT t) n m σ ω σ' ω') : PG κ σ' ω' a p := PG_mv hp e (gT_0 ht)
/-- the draft's directory of its own -/
theorem k_ownDirectory {n : Nat} (h : GR κ B bd σ ω t g c A) (hB : BD κ B bd σ ω) (hK : KS κ) (hT : KT κ) (hF : 64 ≤ F) (ht : 0 < t) (hw : WF n A) {d : aD} (hd : aDr A = some d) (hn : anyNew A = false → 0 < many A) :
    ∃ a σ' ω', f_X3_ownDirectory κ F (some g) σ = some (.inl (some a), σ') ∧ ext (gT t) 11 260 σ ω σ' ω' ∧ GR κ B bd σ' ω' t g c (ownDirA A) ∧ PG κ σ' ω' a (.inr (dirL A (drD A))) := by
  obtain ⟨da, fs, ls, c1, c2, c3, c4⟩ := k_dr h hd
  have i := k_drI c2
  have hV := WF_vdr hw hd
  have eD := drD_d hd
  obtain ⟨a, a1, a2⟩ := k_directory (F := F) h hB hF hV.1.1 hV.1.2.1 hV.1.2.2.1
  obtain ⟨S0, n1, n2⟩ := k_isNew (F := F) hB hF c2 c3 hV.1.1 (k_base h)
  rw [WF_dirnew hw hd] at n1
  have h0 := GR_n h n2
  have hB0 := BD_n hB n2
  have c2' := oc_mv c2 n2 (fun h => h)
  have i' := k_drI c2'
  have a2' := PG_n a2 n2
  have N2 : ext (gT t) 1 1 σ ω S0 ω := nT_le n2 (Nat.le_refl _) (Nat.le_refl _)
  unfold ownDirA
  rw [eD, f_X3_ownDirectory, f_X3_ownDirectory_0, k_f6 h, c1, gB1_s, i.2.2.2, gB1_s, k_ck h, gB1_s, a1, gB2_s, k_f6 h, c1, gB1_s, gB1_s, i.2.2.2, gB1_s, i.1, gB1_s, n1, gB2_s]
  cases ha : anyNew A with
  | true =>
    rw [if_pos rfl, if_neg (by decide), if_pos rfl, f_X3_ownDirectory_54]
    exact ⟨a, S0, ω, rfl, ext_mono N2 (fun _ h => h) (by omega) (by omega), h0, a2'⟩
  | false =>
    have hnx := nxt_of (hn ha)
    rw [if_pos (show (if (false = true) then (1 : Int32) else 0) = 0 from rfl), if_neg (show ¬ (false = true) by decide)]
    generalize nxt A = b at hnx
    have hb := (next_1 hnx).1
    obtain ⟨S1, ω1, z1, e1, z3⟩ := k_dig (F := F) h0 hB0 hK hT hF ht hd (a := a) (p := .inr (dirL A d.2.2)) hnx a2'
    have hd1 := digA_d hd b (.inr (dirL A d.2.2))
    obtain ⟨da1, fs1, ls1, x1, x2, x3, x4⟩ := k_dr z3 hd1
    have hda : da1 = da := by rw [c1] at x1; exact (Option.some.inj x1).symm
    subst hda
    -- the directory's number
    have hpf := oc_pf (v := .int (Int32.ofNat b)) x2 (show 2 < [Value.ref fs1, .ref ls1, .int (Int32.ofNat d.2.2)].length from Nat.lt_succ_self 2)
    have e2 := oc_ext_up x2 (.inr (6, [.ref fs1, .ref ls1, .int (Int32.ofNat b)])) (fun x => x = t + 10) rfl
    have x2' := oc_up x2 (.inr (6, [.ref fs1, .ref ls1, .int (Int32.ofNat b)]))
    have hset : gpf κ S1 (some da1) 6 2 (.int (Int32.ofNat b)) = some (gup S1 da1 (.inr (6, [.ref fs1, .ref ls1, .int (Int32.ofNat b)]))) := hpf
    generalize gup S1 da1 (.inr (6, [.ref fs1, .ref ls1, .int (Int32.ofNat b)])) = S2 at hset e2 x2'
    obtain ⟨q1, q2, q3, q4, q5, q6, q7⟩ := GR_k ht z3 e2
    have s1 := setDD_1 (digA A b (.inr (dirL A d.2.2))) b
    have sd := setDD_d hd1 b
    have h2 : GR κ B bd S2 ω1 t g c (setDD (digA A b (.inr (dirL A d.2.2))) b) := by
      refine ⟨?_, GSt_cg (q2 (by omega)) (fun b' _ => by unfold aSt; rw [s1.1]), GFw_cg (q3 (by omega)) (fun b' _ => by unfold aFw; rw [s1.1]), GRt_cg (q4 (by omega) (by omega) (by omega)) s1.2.1, GRd_cg (q5 (by omega)) s1.2.2.1, GPg_cg (q6 (by omega)) (fun b' _ => by unfold aSt aPg; rw [s1.1]; exact ⟨rfl, fun _ => rfl⟩), ?_, fun b' hb' => by unfold aSt; rw [s1.1]; exact z3.2.2.2.2.2.2.2 b' hb'⟩
      · rw [gCell_cg s1.2.2.2]; exact q1 (by omega)
      · unfold GDr
        rw [sd]
        exact ⟨da1, fs1, ls1, c1, x2', GSet_mv x3 e2 (tk_n (by omega)) (tk_n (by omega)) (tk_0 ht), GSet_mv x4 e2 (tk_n (by omega)) (tk_n (by omega)) (tk_0 ht)⟩
    have E2 := ext_mono e2 (gT_k (t := t) (k := 10) (by omega)) (Nat.le_refl _) (Nat.le_refl _)
    have e012 := ext_trans N2 (ext_trans e1 E2)
    have hB2 := BD_T (T := gT t) ht hB e012
    obtain ⟨S3, ω3, w1, e3, w3⟩ := k_leave (F := F) h2 hB2 hF ht sd hV.1.1
    refine ⟨a, S3, ω3, ?_, ext_mono (ext_trans e012 e3) (fun _ h => h) (by omega) (by omega), ?_, PG_T ht (PG_T ht a2 e012) e3⟩
    · rw [k_f6 h0, c1, gB1_s, i'.2.2.2, gB1_s, gB1_s, k_ck h0, gB1_s, z1, gB3_l, hset, gB1_s, k_ck h2, gB1_s, w1, gB2_s, f_X3_ownDirectory_54]
    · rw [hV.1.2.2.1]
      exact w3
end C
