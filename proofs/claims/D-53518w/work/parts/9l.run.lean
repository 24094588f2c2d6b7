set_option maxRecDepth 100000
/-! the component's commands are carried out -/
theorem spCmd_wf {n : Nat} {A A' : aG} {q : aC} {r : Int32} (hw : WF n A) (hn : n < 1000000) (e : spCmd A q = .inl (A', r)) : WF (n + 1) A' := by
  unfold spCmd at e
  split at e
  · unfold spBegin at e
    cases hd : isDr A with
    | true => rw [hd, if_pos rfl] at e; cases e
    | false => rw [hd, if_neg (by decide)] at e; cases e; exact WF_le (WF_begin hw hd) (Nat.le_succ _)
  · unfold spPut at e
    simp only at e
    split at e
    · split at e
      · rename_i hd
        split at e
        · cases e
        · rename_i h9
          cases e
          exact WF_le (WF_put hw hd (fun h => h9 (Or.inl h)) (fun h => h9 (Or.inr h))) (Nat.le_succ _)
      · cases e
    · cases e
  · unfold spRem at e
    split at e
    · split at e
      · rename_i hd
        split at e
        · cases e
        · rename_i h9
          cases e
          exact WF_le (WF_rem hw hd (fun h => h9 (Or.inl h)) (fun h => h9 (Or.inr h))) (Nat.le_succ _)
      · cases e
    · cases e
  · unfold spCommit at e
    split at e
    · rename_i h3
      split at e
      · rename_i hd
        have e9 := congrArg Prod.fst (Sum.inl.inj e)
        simp only at e9
        rw [← e9]
        obtain ⟨s, hs, h4⟩ := inR_nat (b := 3) (by omega) h3
        rw [h4, (i3_ok (show s < 2147483648 by omega)).2]
        exact WF_commit hw hd hs hn
      · cases e
    · cases e
  · unfold spAbort at e
    split at e
    · cases e; exact WF_le (WF_drop1 hw.1) (Nat.le_succ _)
    · cases e
  · unfold spOpen at e
    split at e
    · cases e; exact WF_le (WF_open hw _) (Nat.le_succ _)
    · cases e
  · unfold spClose at e
    split at e
    · split at e
      · cases e; exact WF_le (WF_close hw _) (Nat.le_succ _)
      · cases e
    · cases e
theorem rFin_ok {tx : List Int32} {i : Nat} (hi : i ≤ tx.length) (h : (rFin tx i).1 = true) : i + 1 ≤ (rFin tx i).2 := by
  unfold rFin at h ⊢
  have h1 := skT_ge (tx := tx) (a := 32) (b := 32) hi
  split
  · show i + 1 ≤ skT tx 32 32 i + 1; omega
  · rename_i hx
    rw [if_neg hx] at h
    cases h
theorem rNum_ok {tx : List Int32} {p : Nat} (hp : p ≤ tx.length) (hy : (rNum tx p).1 = true) : p + 1 ≤ (rNum tx p).2.1 := by
  rw [rNum] at hy
  rw [rNum]
  split at hy
  · rename_i hz
    rw [if_pos hz]
    have h3 := skT_ge (tx := tx) (a := 32) (b := 32) hp
    have h4 := of_decide_eq_true hy
    show _ ≤ dgE tx _
    omega
  · cases hy
theorem rCmd_5 {tx : List Int32} {i : Nat} (hi : i ≤ tx.length) (h : (rCmd tx i).1 = true) : i + 5 ≤ (rCmd tx i).2.1 := by
  have l3 := skT_ge (tx := tx) (a := 97) (b := 122) hi
  have hR : rCmd tx i = if cmdW (wd tx i (skT tx 97 122 i - i)) = 0 then (false, i, 0, 0, 0) else rArg tx (cmdW (wd tx i (skT tx 97 122 i - i))) (skT tx 97 122 i) := rfl
  have hwl := wd_len tx i (skT tx 97 122 i - i)
  have hcs := cmdW_cs (wd tx i (skT tx 97 122 i - i))
  by_cases hz : cmdW (wd tx i (skT tx 97 122 i - i)) = 0
  · rw [hR, if_pos hz] at h; cases h
  · rw [hR, if_neg hz] at h ⊢
    generalize wd tx i (skT tx 97 122 i - i) = w at *
    generalize skT tx 97 122 i = j at *
    -- what an argument's reading takes
    have hA : ∀ c, (rArg tx c j).1 = true → j + 1 + (if nNum c = 2 then 1 else 0) ≤ (rArg tx c j).2.1 := fun c hc => by
      have hn : nNum c = 0 ∨ nNum c = 1 ∨ nNum c = 2 := by
        unfold nNum
        split
        · omega
        · split <;> omega
      have hle := rNum_le (tx := tx) l3.2
      have hle2 := rNum_le (tx := tx) hle.2
      rcases hn with hn | hn | hn
      · rw [rArg_0 hn] at hc ⊢
        rw [if_neg (by omega)]
        exact rFin_ok l3.2 hc
      · rw [rArg_1 hn] at hc ⊢
        rw [if_neg (by omega)]
        split at hc
        · rename_i hx
          rw [if_pos hx]
          have := rFin_ok hle.2 hc
          show j + 1 + 0 ≤ (rFin tx (rNum tx j).2.1).2
          omega
        · cases hc
      · rw [rArg_2 hn] at hc ⊢
        rw [if_pos hn]
        split at hc
        · rename_i hx
          rw [if_pos hx]
          split at hc
          · rename_i hy
            rw [if_pos hy]
            have := rFin_ok hle2.2 hc
            have h2 := rNum_ok hle.2 hy
            show j + 1 + 1 ≤ (rFin tx (rNum tx (rNum tx j).2.1).2.1).2
            omega
          · cases hc
        · cases hc
    have h1 := hA _ h
    rcases hcs with e | ⟨e, e2⟩ | ⟨e, e2⟩ | ⟨e, e2⟩ | ⟨e, e2⟩ | ⟨e, e2⟩ | ⟨e, e2⟩ | ⟨e, e2⟩
    · exact absurd e hz
    · rw [e2] at h1 ⊢
      subst e
      have h1 : j + 1 + 0 ≤ _ := h1
      have hwl : 5 = j - i := hwl
      omega
    · rw [e2] at h1 ⊢
      subst e
      have h1 : j + 1 + 1 ≤ _ := h1
      have hwl : 3 = j - i := hwl
      omega
    · rw [e2] at h1 ⊢
      subst e
      have h1 : j + 1 + 0 ≤ _ := h1
      have hwl : 4 = j - i := hwl
      omega
    · rw [e2] at h1 ⊢
      subst e
      have h1 : j + 1 + 0 ≤ _ := h1
      have hwl : 6 = j - i := hwl
      omega
    · rw [e2] at h1 ⊢
      subst e
      have h1 : j + 1 + 0 ≤ _ := h1
      have hwl : 5 = j - i := hwl
      omega
    · rw [e2] at h1 ⊢
      subst e
      have h1 : j + 1 + 0 ≤ _ := h1
      have hwl : 4 = j - i := hwl
      omega
    · rw [e2] at h1 ⊢
      subst e
      have h1 : j + 1 + 0 ≤ _ := h1
      have hwl : 5 = j - i := hwl
      omega
theorem prs_5 {tx : List Int32} : ∀ {f i : Nat} {cs : List aC}, i ≤ tx.length → prs tx f i = .inr cs → 5 * cs.length ≤ tx.length - i
  | 0, i, cs, _, h => by cases h
  | f + 1, i, cs, hi, h => by
    rw [prs] at h
    split at h
    · cases h; exact Nat.zero_le _
    · split at h
      · rename_i hok
        obtain ⟨h1, h2⟩ := rCmd_le hi
        have h2 := rCmd_5 hi hok
        have h3 := skT_ge (a := 32) (b := 32) h1
        split at h
        · cases h
        · rename_i cs' hp
          cases h
          have := prs_5 (f := f) h3.2 hp
          rw [List.length_cons]
          omega
      · cases h
section C
variable {κ : gK} {B : Nat → Nat} {bd : Nat} {F : Nat} {σ : gS} {ω : Nat → Nat} {t g : Nat} {c : gA} {A : aG} {a nb : Nat} {N : Nat → Int32}
def gTe (t y : Nat) : Prop := gT t y ∨ y = 11
def ans (sp : (aG × Int32) ⊕ Int32) (C : String) : Int32 ⊕ String := match sp with
  | .inl q => .inl q.2
  | .inr _ => .inr C
theorem ans_outE (sp : (aG × Int32) ⊕ Int32) {e1 e2 : String} (h1 : e1 = eIX ∨ e1 = eIA ∨ e1 = eIS) (h2 : e2 = eIX ∨ e2 = eIA ∨ e2 = eIS) : ∃ C, (C = eIX ∨ C = eIA ∨ C = eIS) ∧ outE sp e1 e2 = ans sp C := by
  cases sp with
  | inl q => exact ⟨eIX, Or.inl rfl, rfl⟩
  | inr k =>
    by_cases e : k = 1
    · exact ⟨e1, h1, by unfold outE ans; simp only; rw [if_pos e]⟩
    · exact ⟨e2, h2, by unfold outE ans; simp only; rw [if_neg e]⟩
theorem t_carry {n : Nat} (hK : KS κ) (hT : KT κ) (hF : 200 ≤ F) (h : GR κ B bd σ ω t g c A) (hB : BD κ B bd σ ω) (ht : 16 ≤ t) (hw : WF n A) (hn : oc κ σ ω 8 nb (.inl (0, 2, .inl N))) {wl : List Nat} (hs : SQ κ σ ω a wl) (hq : KQ κ σ ω) {q : aC} (hc : cmdW wl = q.1) (h1 : 1 ≤ q.1) (ha : 1 ≤ nNum q.1 → N 0 = Int32.ofNat q.2.1) (hb : nNum q.1 = 2 → N 1 = Int32.ofNat q.2.2) :
    ∃ C σ' ω' c', (C = eIX ∨ C = eIA ∨ C = eIS) ∧ f_X1_carryOut κ F (some g) (some a) (some nb) σ = some (ans (spCmd A q) C, σ') ∧ ext (gTe t) 64 1020 σ ω σ' ω' ∧ GR κ B bd σ' ω' t g c' (gOf A (spCmd A q)) := by
  obtain ⟨S1, q1, e1, q3⟩ := sq_hash (F := F) hF hs
  have n11 : ∀ y, y ≠ 11 → ¬ e11 y := fun y h e => h e
  have hq1 := KQ_mv hq e1 (n11 _ (by omega))
  have hg1 := GR_mv h e1 (fun y hy => n11 y (by have := hy.1; omega)) (n11 _ (by omega))
  have hB1 := BD_mv hB e1 (n11 _ (by omega))
  have hn1 := oc_mv hn e1 (n11 _ (by omega))
  have g0 : gaI S1 (some nb) 0 (0 : Int32) = some (N 0) := by rw [gaI_u, hn1.1]; exact gai9_s (k := 0) (by omega) (by omega)
  have g1 : gaI S1 (some nb) 0 (1 : Int32) = some (N 1) := by rw [gaI_u, hn1.1]; exact gai9_s (k := 1) (by omega) (by omega)
  have E1 : ext (gTe t) 0 0 σ ω S1 ω := ext_mono e1 (fun y h => Or.inr h) (Nat.le_refl _) (Nat.le_refl _)
  have fin : ∀ {sp : (aG × Int32) ⊕ Int32} {x1 x2 : String} {f code : Option ((Int32 ⊕ String) × gS)}, code = gB3 f (fun v s => f_X1_carryOut_257 κ F v s) → (x1 = eIX ∨ x1 = eIA ∨ x1 = eIS) → (x2 = eIX ∨ x2 = eIA ∨ x2 = eIS) → (∃ σ' ω' c', f = some (outE sp x1 x2, σ') ∧ ext (gT t) 64 1020 S1 ω σ' ω' ∧ GR κ B bd σ' ω' t g c' (gOf A sp)) →
      ∃ C σ' ω' c', (C = eIX ∨ C = eIA ∨ C = eIS) ∧ code = some (ans sp C, σ') ∧ ext (gTe t) 64 1020 σ ω σ' ω' ∧ GR κ B bd σ' ω' t g c' (gOf A sp) := by
    intro sp x1 x2 f code hrun y1 y2 ⟨σ', ω', c', z1, z2, z3⟩
    obtain ⟨C, w1, w2⟩ := ans_outE sp y1 y2
    refine ⟨C, σ', ω', c', w1, ?_, ext_mono (ext_trans E1 (ext_mono z2 (fun y h => Or.inl h) (Nat.le_refl _) (Nat.le_refl _))) (fun _ h => h) (by omega) (by omega), z3⟩
    rw [hrun, z1, w2]
    cases sp with
    | inl q => rfl
    | inr k => rfl
  have i1 : eIA = eIX ∨ eIA = eIA ∨ eIA = eIS := Or.inr (Or.inl rfl)
  have i2 : eIS = eIX ∨ eIS = eIA ∨ eIS = eIS := Or.inr (Or.inr rfl)
  have i3 : eIX = eIX ∨ eIX = eIA ∨ eIX = eIS := Or.inl rfl
  obtain ⟨qc, qa, qb⟩ := q
  simp only at hc h1 ha hb
  rw [f_X1_carryOut, f_X1_carryOut_0, sq_ck hs, gB1_s, q1, gB2_s]
  simp only [sq_ck q3, gB1_s, sq_put hF q3 hq1, sq_drop hF q3 hq1, sq_commit hF q3 hq1, sq_close hF q3 hq1, sq_begin hF q3 hq1, sq_abort hF q3 hq1, gB2_s]
  rcases cmdW_cs wl with e | ⟨e, ec⟩ | ⟨e, ec⟩ | ⟨e, ec⟩ | ⟨e, ec⟩ | ⟨e, ec⟩ | ⟨e, ec⟩ | ⟨e, ec⟩
  · omega
  · rw [ec] at hc; subst hc; subst e; rw [hs_begin]
    refine fin ((show _ = f_X1_carryOut_155 κ F (some g) (some nb) (4 : Int32) S1 from rfl).trans (by rw [f_X1_carryOut_155, if_neg (by decide), if_neg (by decide), if_neg (by decide), if_neg (by decide), if_pos rfl, k_ck hg1, gB1_s])) i2 i2 ?_
    obtain ⟨σ', ω', c', z1, z2, z3⟩ := k_begin (F := F) hg1 hT (by omega) hw
    exact ⟨σ', ω', c', z1, x_le z2 (by omega) (by omega), z3⟩
  · rw [ec] at hc; subst hc; subst e; rw [hs_put]
    refine fin ((show _ = f_X1_carryOut_155 κ F (some g) (some nb) (0 : Int32) S1 from rfl).trans (by rw [f_X1_carryOut_155, if_pos rfl, g0, gB1_s, g1, gB1_s, ha (by decide), hb (by decide), k_ck hg1, gB1_s])) i1 i2 ?_
    obtain ⟨σ', ω', z1, z2, z3⟩ := k_put (F := F) hg1 hB1 hK hT (by omega) (by omega) hw (Int32.ofNat qa) (Int32.ofNat qb)
    exact ⟨σ', ω', c, z1, z2, z3⟩
  · rw [ec] at hc; subst hc; subst e; rw [hs_drop]
    refine fin ((show _ = f_X1_carryOut_155 κ F (some g) (some nb) (1 : Int32) S1 from rfl).trans (by rw [f_X1_carryOut_155, if_neg (by decide), if_pos rfl, g0, gB1_s, ha (by decide), k_ck hg1, gB1_s])) i1 i2 ?_
    obtain ⟨σ', ω', z1, z2, z3⟩ := k_remove (F := F) hg1 hB1 hK hT (by omega) (by omega) hw (Int32.ofNat qa)
    exact ⟨σ', ω', c, z1, z2, z3⟩
  · rw [ec] at hc; subst hc; subst e; rw [hs_commit]
    refine fin ((show _ = f_X1_carryOut_155 κ F (some g) (some nb) (2 : Int32) S1 from rfl).trans (by rw [f_X1_carryOut_155, if_neg (by decide), if_neg (by decide), if_pos rfl, g0, gB1_s, ha (by decide), k_ck hg1, gB1_s])) i1 i2 ?_
    obtain ⟨σ', ω', c', z1, z2, z3⟩ := k_commit (F := F) hg1 hB1 hT (by omega) (by omega) hw (Int32.ofNat qa)
    exact ⟨σ', ω', c', z1, x_le z2 (by omega) (by omega), z3⟩
  · rw [ec] at hc; subst hc; subst e; rw [hs_abort]
    refine fin ((show _ = f_X1_carryOut_155 κ F (some g) (some nb) (5 : Int32) S1 from rfl).trans (by rw [f_X1_carryOut_155, if_neg (by decide), if_neg (by decide), if_neg (by decide), if_neg (by decide), if_neg (by decide), if_pos rfl, k_ck hg1, gB1_s])) i2 i2 ?_
    obtain ⟨σ', ω', c', z1, z2, z3⟩ := k_abort (F := F) hg1 hB1 hT (by omega) (by omega) hw
    exact ⟨σ', ω', c', z1, x_le z2 (by omega) (by omega), z3⟩
  · rw [ec] at hc; subst hc; subst e; rw [hs_open]
    refine fin ((show _ = f_X1_carryOut_155 κ F (some g) (some nb) (-1 : Int32) S1 from rfl).trans (by rw [f_X1_carryOut_155, if_neg (by decide), if_neg (by decide), if_neg (by decide), if_neg (by decide), if_neg (by decide), if_neg (by decide), k_ck hg1, gB1_s])) i2 i2 ?_
    obtain ⟨σ', ω', c', z1, z2, z3⟩ := k_open (F := F) hg1 hT (by omega) (by omega) hw
    exact ⟨σ', ω', c', z1, x_le z2 (by omega) (by omega), z3⟩
  · rw [ec] at hc; subst hc; subst e; rw [hs_close]
    refine fin ((show _ = f_X1_carryOut_155 κ F (some g) (some nb) (3 : Int32) S1 from rfl).trans (by rw [f_X1_carryOut_155, if_neg (by decide), if_neg (by decide), if_neg (by decide), if_pos rfl, g0, gB1_s, ha (by decide), k_ck hg1, gB1_s])) i3 i2 ?_
    obtain ⟨σ', ω', c', z1, z2, z3⟩ := k_close (F := F) hg1 hK hT (by omega) (by omega) hw (Int32.ofNat qa)
    exact ⟨σ', ω', c', z1, x_le z2 (by omega) (by omega), z3⟩
end C
