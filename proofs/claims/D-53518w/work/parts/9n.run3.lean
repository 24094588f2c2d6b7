set_option maxRecDepth 100000
/-! the component runs the typed commands: the second reading -/
def gY (t y : Nat) : Prop := gT t y ∨ tX y
section C
variable {κ : gK} {B : Nat → Nat} {bd : Nat} {F : Nat} {o x nb : Nat} {tx : List Int32} {t g : Nat}
theorem gY_no {t y : Nat} (ht : 16 ≤ t) (h : y < 7) : ¬ gY t y := fun e => by
  rcases e with e | e
  · have := e.1; omega
  · have := e.1; omega
theorem t_on2 (hK : KS κ) (hT : KT κ) (hF : 400 ≤ F) (ht : 16 ≤ t) : ∀ (f fuel i n : Nat) (cs : List aC) (A : aG) (c : gA) (σ : gS) (ω : Nat → Nat) (w : Value) (N : Nat → Int32) (done : Nat), i ≤ tx.length → prs tx f (skT tx 32 32 i) = .inr cs → f < fuel → n + cs.length < 1000000 → WF n A → TT κ σ ω o x nb i (-1000) w N → CM κ σ ω o tx → KQ κ σ ω → BD κ B bd σ ω → GR κ B bd σ ω t g c A →
    ∃ σ' ω' c', f_X11_carryOutOn_2 κ F fuel (some x) (some g) (Int32.ofNat done) σ = some (Int32.ofNat (done + (exe cs A).2), σ') ∧ ext (gY t) (4 * (tx.length - i) + 64 * cs.length) (40 * (tx.length - i) + 1020 * cs.length) σ ω σ' ω' ∧ GR κ B bd σ' ω' t g c' (exe cs A).1 := by
  intro f
  induction f with
  | zero => intro fuel i n cs A c σ ω w N done hi hp; cases hp
  | succ f ih =>
    intro fuel i n cs A c σ ω w N done hi hp hfu hn hw h hc hq hB hg
    have h150 := hc.1
    obtain ⟨fu, rfl⟩ : ∃ k, fuel = k + 1 := ⟨fuel - 1, by omega⟩
    have l3 := skT_ge (tx := tx) (a := 32) (b := 32) hi
    rw [prs] at hp
    rw [f_X11_carryOutOn_2, f_X11_carryOutOn_2b, tt_ck h, gB1_s]
    by_cases he : tx.length ≤ skT tx 32 32 i
    · obtain ⟨S1, s1, e1, h1⟩ := t_next0 (F := F) hF h hc hi (Or.inl he)
      rw [if_pos he] at hp
      cases hp
      rw [s1, gB2_s, if_pos rfl]
      exact ⟨S1, ω, c, rfl, ext_mono e1 (fun y h => Or.inr (e7_X y h)) (by omega) (by omega), GR_mv hg e1 (fun y hy e => by have := hy.1; have e : y = 7 := e; omega) (by decide)⟩
    · rw [if_neg he] at hp
      obtain ⟨S1, w1, a, N1, s1, e1, h1, h2⟩ := t_next1 (F := F) hF h hc hq hi (by omega)
      cases hr : (rCmd tx (skT tx 32 32 i)).1 with
      | false => rw [hr, if_neg (show ¬ (false = true) by decide)] at hp; cases hp
      | true =>
        rw [hr, if_pos rfl] at hp
        rw [hr] at e1 h1
        rw [if_pos rfl] at e1 h1
        rw [if_pos rfl] at e1
        obtain ⟨⟨wl, q1, q2⟩, q3, q4, q5, q6⟩ := h2 hr
        have hle := (rCmd_le (tx := tx) l3.2).1
        have h5 := rCmd_5 l3.2 hr
        generalize rCmd tx (skT tx 32 32 i) = R at *
        have hc1 := CM_mv hc e1 (tX_no (by omega)) (tX_no (by omega))
        have hq1 := KQ_mv hq e1 (tX_no (by omega))
        have hB1 := BD_mv hB e1 (tX_no (by omega))
        have hg1 := GR_mv hg e1 (fun y hy => tX_no (by have := hy.1; omega)) (tX_no (by omega))
        cases hx : prs tx f (skT tx 32 32 R.2.1) with
        | inl p => rw [hx] at hp; cases hp
        | inr cs' =>
          rw [hx] at hp
          cases hp
          rw [List.length_cons] at hn
          have rw1 : gfR S1 (some x) 8 2 = some (some a) := by rw [gfR_u, h1.1.1]; rfl
          obtain ⟨C, S2, w2, c2, z1, z2, z3, z4⟩ := t_carry (F := F) hK hT (by omega) hg1 hB1 ht hw h1.2 q1 hq1 (q := R.2.2) q2 q3 q5 q6
          have e12 : ext (gY t) (4 + 64) (40 + 1020) σ ω S2 w2 := ext_trans (ext_mono e1 (fun y h => Or.inr h) (Nat.le_refl _) (Nat.le_refl _)) (ext_mono z3 (fun y h => h.elim Or.inl (fun h => Or.inr (e11_X y h))) (Nat.le_refl _) (Nat.le_refl _))
          rw [s1, gB2_s, if_neg (by decide), rw1, gB1_s, tt_nb h1, gB1_s, z2]
          have n3 : ∀ y, y ≠ 11 → y < 16 → ¬ gTe t y := fun y h1 h2 e => e.elim (fun e => by have := e.1; omega) h1
          cases hsp : spCmd A R.2.2 with
          | inr k =>
            have hE : exe (R.2.2 :: cs') A = (A, 0) := by rw [exe, hsp]
            rw [hsp] at z4
            rw [hE]
            refine ⟨S2, w2, c2, ?_, ext_mono e12 (fun _ h => h) (by rw [List.length_cons]; omega) (by rw [List.length_cons]; omega), z4⟩
            show gBy (some (.inr C, S2)) _ _ = _
            rw [gBy_r]
            rcases z1 with rfl | rfl | rfl <;> rfl
          | inl q =>
            have hE : exe (R.2.2 :: cs') A = ((exe cs' q.1).1, (exe cs' q.1).2 + 1) := by rw [exe, hsp]
            rw [hsp] at z4
            obtain ⟨S3, w3, c3, y1, y2, y3⟩ := ih fu R.2.1 (n + 1) cs' q.1 c2 S2 w2 _ _ (done + 1) hle hx (by omega) (by omega) (spCmd_wf hw (by omega) (show spCmd A R.2.2 = .inl (q.1, q.2) from hsp)) (TT_mv h1 z3 (n3 _ (by omega) (by omega)) (n3 _ (by omega) (by omega))) (CM_mv hc1 z3 (n3 _ (by omega) (by omega)) (n3 _ (by omega) (by omega))) (KQ_mv hq1 z3 (n3 _ (by omega) (by omega))) (BD_mv hB1 z3 (n3 _ (by omega) (by omega))) z4
            rw [hE]
            refine ⟨S3, w3, c3, ?_, ext_mono (ext_trans e12 y2) (fun _ h => h) (by rw [List.length_cons]; omega) (by rw [List.length_cons]; omega), y3⟩
            show gBy (some (.inl q.2, S2)) _ _ = _
            rw [gBy_l, i3_s, y1]
            show some (Int32.ofNat (done + 1 + (exe cs' q.1).2), S3) = some (Int32.ofNat (done + ((exe cs' q.1).2 + 1)), S3)
            rw [show done + 1 + (exe cs' q.1).2 = done + ((exe cs' q.1).2 + 1) by omega]
theorem x_run {n : Nat} {S : aS} {σ : gS} {ω : Nat → Nat} (hK : KS κ) (hT : KT κ) (hF : 1000 ≤ F) (h : KM κ B bd σ ω o S) (hw : WS n S) (hn : n < 900000) : ∃ σ' ω', f_X1_runCommands κ F (some o) σ = some ((spRun S).1, σ') ∧ ext cT 5000 60000 σ ω σ' ω' ∧ KM κ B bd σ' ω' o (spRun S).2 := by
  have h150 := hw.2.2.2.1
  have hb := KM_b h
  have h7 : ∀ y, tX y → y = 5 ∨ y = 6 ∨ (7 ≤ y ∧ y ≤ 15) := fun y hy => Or.inr (Or.inr ⟨hy.1, by have := hy.2; omega⟩)
  obtain ⟨x, nb, S1, w1, v1, n1, n2, e1, t1⟩ := t_new (κ := κ) (F := F) (σ := σ) (ω := ω) (o := o) hb hT rfl
  have k1 := KM_mv h e1 (fun _ h => h.elim)
  obtain ⟨t0, g0, c0, _, hck, hg0, hB0, _⟩ := km_cur k1
  have cm1 := km_CM k1 hw
  have q1 : KQ κ S1 w1 := by obtain ⟨t, g, c, sv, cm, fc, L, h1, h2, h3, h4, h5, h6, h7, h8, h9, h10⟩ := k1; exact h10
  obtain ⟨S2, w2, f', i', ft', w', N', r1, e2, t2, r4, r5⟩ := t_run11 (F := F) (o := o) (x := x) (nb := nb) (tx := S.2.2) (by omega) (S.2.2.length + 1) F 0 S1 w1 _ _ (Nat.zero_le _) (by omega) (by omega) t1 cm1 q1
  have k2 := KM_mv k1 e2 h7
  have E2 : ext cT (762) (6807) σ ω S2 w2 := ext_mono (ext_trans (nT_le e1 (Nat.le_refl _) (Nat.le_refl _)) (ext_mono e2 (fun y h => ⟨by have := h.1; omega, by have := h.1; omega, by have := h.1; omega⟩) (Nat.le_refl _) (Nat.le_refl _))) (fun _ h => h) (by omega) (by omega)
  have run : f_X1_runCommands κ F (some o) σ = f_X1_runCommands_11b κ F f' (some o) (some x) (0 : Int32) S2 := by
    rw [f_X1_runCommands, f_X1_runCommands_0, n1, gB2_s, gsm_s, gB1_s, n2, gB2_s, r1]
  rw [run, f_X1_runCommands_11b, if_pos rfl, tt_ft t2, gB1_s]
  unfold spRun
  cases hp : prs S.2.2 (S.2.2.length + 1) (skT S.2.2 32 32 0) with
  | inl p =>
    rw [hp] at r4
    have hle := r5 p hp
    have r4 : ft' = Int32.ofNat p := r4
    have hnf : ¬ (ft' = -1000) := fun e => by
      rw [r4] at e
      have := congrArg Int32.toInt e
      rw [Int32.toInt_ofNat_small (by omega)] at this
      have h9 : (-1000 : Int32).toInt = -1000 := by decide
      omega
    rw [if_neg hnf, gB1_s, r4]
    exact ⟨S2, w2, rfl, ext_mono E2 (fun _ h => h) (by omega) (by omega), k2⟩
  | inr cs =>
    rw [hp] at r4
    have r4 : ft' = -1000 := r4
    have hcl := prs_5 (skT_ge (tx := S.2.2) (a := 32) (b := 32) (Nat.zero_le _)).2 hp
    rw [if_pos r4]
    have hcm2 := km_CM k2 hw
    obtain ⟨t, g, c, sv, cm, fc, L, h1, h2, h3, h4, h5, h6, h7', h8, h9, h10⟩ := k2
    obtain ⟨t1', ht1, hX⟩ := fresh_above w2 S2 (t + 16)
    obtain ⟨g1, S3, w3, c1, a1, e3, a3, a4⟩ := k_copy (F := F) hK (by omega) (by omega) ht1 h3 h9 hX
    have n1' : ∀ x, x ≠ t + 2 → x ≠ t + 3 → ¬ ((fun x => x = t + 2 ∨ x = t + 3) x) := fun x h1 h2 h => h.elim h1 h2
    have ng1 : ∀ x ∈ L, ∀ y, gU x.1 y → ¬ ((fun x => x = t + 2 ∨ x = t + 3) y) := fun x hx y hy => n1' y (by have := hy.2; have := (h6.1 x hx).2; omega) (by have := hy.2; have := (h6.1 x hx).2; omega)
    have h13 := oc_mv h1 e3 (n1' _ (by omega) (by omega))
    have hb3 := ext_21 (κ := κ) e3 (by have := h1.2.1; have := h1.2.2.2; omega : κ.1 ≤ S2.2.1)
    obtain ⟨x2, nb2, S4, w4, v4, m1, m2, e4, t4⟩ := t_new (κ := κ) (F := F) (σ := S3) (ω := w3) (o := o) hb3 hT rfl
    have h14 := oc_mv h13 e4 (fun h => h)
    have hcm4 := CM_mv (CM_mv hcm2 e3 (n1' _ (by omega) (by omega)) (n1' _ (by omega) (by omega))) e4 (fun h => h) (fun h => h)
    have hq4 := KQ_mv (KQ_mv h10 e3 (n1' _ (by omega) (by omega))) e4 (fun h => h)
    have hB4 := BD_mv (BD_mv h9 e3 (n1' _ (by omega) (by omega))) e4 (fun h => h)
    obtain ⟨S5, w5, c5, b1, e5, b3⟩ := t_on2 (F := F) hK hT (by omega) (show 16 ≤ t1' by omega) (S.2.2.length + 1) F 0 n cs S.1 c1 S4 w4 _ _ 0 (Nat.zero_le _) hp (by omega) (by omega) hw.1 t4 hcm4 hq4 hB4 (GR_n a4 e4)
    have n5 : ∀ y, (y < 7 ∨ (16 ≤ y ∧ y < t + 16)) → ¬ gY t1' y := fun y hy e => by
      rcases e with e | e
      · have := e.1; omega
      · have := e.1; have := e.2; omega
    have h15 := oc_mv h14 e5 (n5 _ (by omega))
    have h35 := GR_mv (GR_n a3 e4) e5 (fun y hy => n5 y (by have := hy.1; have := hy.2; omega)) (n5 _ (by omega))
    have h45 := AL_mv (AL_mv (AL_mv h4 e3 (n1' _ (by omega) (by omega)) (n1' _ (by omega) (by omega)) (n1' _ (by omega) (by omega))) e4 (fun h => h) (fun h => h) (fun h => h)) e5 (n5 _ (by omega)) (n5 _ (by omega)) (n5 _ (by omega))
    have h55 := SL_mv e5 (n5 _ (by omega)) (SL_mv e4 (fun h => h) (SL_mv e3 (n1' _ (by omega) (by omega)) h5 ng1) (fun _ _ _ _ h => h)) (fun x hx y hy => n5 y (by have := hy.1; have := hy.2; have := (h6.1 x hx).1; have := (h6.1 x hx).2; omega))
    have h75 := oc_mv (oc_mv (oc_mv h7' e3 (n1' _ (by omega) (by omega))) e4 (fun h => h)) e5 (n5 _ (by omega))
    have h95 := BD_mv hB4 e5 (n5 _ (by omega))
    have h105 := KQ_mv hq4 e5 (n5 _ (by omega))
    obtain ⟨S6, w6, d1, d2, d3⟩ := k_become (F := F) h15 h2 h35 h45 h55 h6 h75 h8 h95 h105 hw.2.1 ht1 b3 (Int32.ofNat (0 + (exe cs S.1).2))
    have r0 : gfR S2 (some o) 0 0 = some (some g) := by rw [gfR_u, h1.1]; rfl
    have hck5 : gck S5 (some o) 0 = some () := by rw [gck_u, h15.1]; rfl
    refine ⟨S6, w6, ?_, ?_, d3⟩
    · rw [r0, gB1_s, k_ck h3, gB1_s, a1, gB2_s, m1, gB2_s, gsm_s, gB1_s, m2, gB2_s, tt_ck t4, gB1_s, f_X11_carryOutOn, f_X11_carryOutOn_0, show (0 : Int32) = Int32.ofNat 0 from rfl, b1, gB2_s, hck5, gB1_s, d1, gB2_s, Nat.zero_add]
    · refine ext_mono (ext_trans E2 (ext_trans (ext_mono e3 (fun y hy => by have hy : y = t + 2 ∨ y = t + 3 := hy; exact ⟨by omega, by omega, by omega⟩) (Nat.le_refl _) (Nat.le_refl _)) (ext_trans (nT_le e4 (Nat.le_refl _) (Nat.le_refl _)) (ext_trans (ext_mono e5 (fun y hy => ?_) (Nat.le_refl _) (Nat.le_refl _)) (ext_mono d2 (fun x hx => by have hx : x = 1 ∨ x = 2 ∨ x = 3 := hx; exact ⟨by omega, by omega, by omega⟩) (Nat.le_refl _) (Nat.le_refl _)))))) (fun _ h => h) (by omega) (by omega)
      rcases hy with hy | hy
      · exact ⟨by have := hy.1; omega, by have := hy.1; omega, by have := hy.1; omega⟩
      · exact ⟨by have := hy.1; omega, by have := hy.1; omega, by have := hy.1; omega⟩
end C
