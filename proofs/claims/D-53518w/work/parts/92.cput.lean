/-! the component: change, put -/
def outE (sp : (aG × Int32) ⊕ Int32) (e1 e2 : String) : Int32 ⊕ String := match sp with
  | .inl q => .inl q.2
  | .inr k => if k = 1 then .inr e1 else .inr e2
def gOf (A : aG) (sp : (aG × Int32) ⊕ Int32) : aG := match sp with
  | .inl q => q.1
  | .inr _ => A
theorem many_sum (A : aG) : many A = cnt (digg A) 32 + cnt (fun b => decide (aSt A b = 0)) 32 := by
  have : ∀ n, cnt (fre A) n = cnt (digg A) n + cnt (fun b => decide (aSt A b = 0)) n := fun n => by
    induction n with
    | zero => rfl
    | succ n ih =>
      rw [cnt_s, cnt_s, cnt_s, ih]
      unfold fre
      by_cases h0 : aSt A n = 0
      · have hd : digg A n = false := by
          cases hx : digg A n with
          | false => rfl
          | true => unfold digg at hx; have := (of_decide_eq_true hx).1; omega
        simp [hd, h0]
        omega
      · cases digg A n with
        | true => simp [h0]; omega
        | false => simp [h0]
  exact this 32
section C
variable {κ : gK} {B : Nat → Nat} {bd : Nat} {F : Nat} {σ : gS} {ω : Nat → Nat} {t g : Nat} {c : gA} {A : aG}
theorem own_w {n m : Nat} {σ' : gS} (e : ext nT n m σ (own ω σ.2.1 0) σ' (own ω σ.2.1 0)) : ext nT n m σ ω σ' (own ω σ.2.1 0) := ext_mono (ext_trans (ext_own nT σ ω 0) e) (fun _ h => h) (by omega) (by omega)
theorem own_PG {a : Nat} {p : Pg} (h : PG κ σ ω a p) : PG κ σ (own ω σ.2.1 0) a p := PG_n h (ext_own nT σ ω 0)
theorem own_all : ∀ b, σ.2.1 ≤ b → own ω σ.2.1 0 b = 0 := fun _ h => own_new h
theorem k_change {n : Nat} (h : GR κ B bd σ ω t g c A) (hB : BD κ B bd σ ω) (hK : KS κ) (hT : KT κ) (hF : 64 ≤ F) (ht : 0 < t) (hw : WF n A) {d : aD} (hd : aDr A = some d) {place a' : Nat} {l : List (Int32 × Int32)} (hp : place < (dirL A (drD A)).length) (hl : PG κ σ ω a' (.inl l)) (hn : isNew A ((dirL A (drD A)).getD place 0) = false → 0 < many A) :
    ∃ σ' ω', f_X3_change κ F (some g) (Int32.ofNat place) (some a') σ = some (.inl (), σ') ∧ ext (gT t) 16 353 σ ω σ' ω' ∧ GR κ B bd σ' ω' t g c (changeA A place l) := by
  obtain ⟨D, w1, w2, w3, w4, w5, w6, w7, w8, w9, w10, w11⟩ := WF_d hw hd
  obtain ⟨da, fs, ls, c1, c2, c3, c4⟩ := k_dr h hd
  have i := k_drI c2
  obtain ⟨a, a1, a2⟩ := k_directory (F := F) h hB hF w1 (by rw [w5]; decide) w3
  obtain ⟨la, d1, d2, d3, d4⟩ := PG_dir a2 (by omega)
  rw [w4] at hp hn
  have hm : D.getD place 0 ∈ D := getD_mem hp
  obtain ⟨v1, ⟨l0, v2, v2'⟩, v3, v4, v5⟩ := w8 _ hm
  unfold changeA
  rw [w4, w2]
  simp only
  have hget := d3 place hp
  generalize D.getD place 0 = lf at hm v1 v2 v3 v4 v5 hn hget ⊢
  obtain ⟨S0, n1, n2⟩ := k_isNew (F := F) hB hF c2 c3 v1 (k_base h)
  have h0 := GR_n h n2
  have hB0 := BD_n hB n2
  have a2' := PG_n a2 n2
  have hl' := PG_n hl n2
  have N2 : ext (gT t) 1 1 σ ω S0 ω := nT_le n2 (Nat.le_refl _) (Nat.le_refl _)
  rw [f_X3_change, f_X3_change_0, k_f6 h, c1, gB1_s, i.2.2.2, gB1_s, k_ck h, gB1_s, a1, gB2_s, d1, gB1_s, hget, gB1_s, k_f6 h, c1, gB1_s, i.1, gB1_s, n1, gB2_s, isNew_d hd]
  cases hx : d.1 lf with
  | true =>
    obtain ⟨S1, ω1, y1, e1, y3⟩ := k_layA (F := F) h0 hB0 hF ht v1 (by rw [v3]; decide) hl'
    rw [if_pos rfl, if_neg (by decide), if_pos rfl, k_ck h0, gB1_s, y1, gB2_s, f_X3_change_62]
    exact ⟨S1, ω1, rfl, ext_mono (ext_trans N2 (ext_mono e1 (gT_k (by omega)) (Nat.le_refl _) (Nat.le_refl _))) (fun _ h => h) (by omega) (by omega), y3⟩
  | false =>
    rw [isNew_d hd] at hn
    have hnx := nxt_of (hn hx)
    rw [if_pos (show (if (false = true) then (1 : Int32) else 0) = 0 from rfl), if_neg (show ¬ (false = true) by decide)]
    generalize nxt A = b at hnx
    have hb := (next_1 hnx).1
    have hbu := next_used hnx
    have hne : d.2.2 ≠ b := fun e => hbu (by rw [← e]; exact w5)
    obtain ⟨S1, ω1, z1, e1, z3⟩ := k_dig (F := F) h0 hB0 hK hT hF ht hd (a := a') hnx hl'
    have hB1 := BD_T (T := gT t) ht hB0 e1
    have a2'' := PG_T ht a2' e1
    obtain ⟨la', d1', d2', d3', d4'⟩ := PG_dir a2'' (by omega)
    obtain ⟨o, S2, p1, p2, p3⟩ := k_instead (κ := κ) (F := F) (x := b) (j := place) (own_all (ω := ω1)) (k_base z3) (own_PG a2'') w6 hp
    have P2 := own_w p2
    have h2 := GR_n z3 P2
    have hB2 := BD_n hB1 P2
    have hd1 := digA_d hd b (.inl l)
    have hsd : aSt (digA A b (.inl l)) d.2.2 ≠ 0 := by unfold aSt; rw [digA_11, if_neg hne]; rw [show (A.1 d.2.2).1 = 1 from w5]; decide
    obtain ⟨S3, ω3, s1, e3, s3⟩ := k_setDir (F := F) h2 hB2 hF ht hd1 (a := o) (p := .inr (D.set place b)) w1 hsd p3
    have E3 := ext_mono e3 (gT_k (t := t) (k := 1) (by omega)) (Nat.le_refl _) (Nat.le_refl _)
    have hB3 := BD_T (T := gT t) ht hB2 E3
    have hd3 : aDr (layA (digA A b (.inl l)) d.2.2 (.inr (D.set place b))) = some (va_up d.1 b true, d.2) := hd1
    obtain ⟨S4, ω4, u1, e4, u3⟩ := k_leave (F := F) s3 hB3 hF ht hd3 v1
    rw [k_ck h0, gB1_s, z1, gB3_l, d4', gB1_s, p1, gB2_s, k_ck h2, gB1_s, s1, gB2_s, k_ck s3, gB1_s, u1, gB2_s, f_X3_change_62]
    refine ⟨S4, ω4, rfl, ext_mono (ext_trans N2 (ext_trans e1 (ext_trans (nT_le P2 (Nat.le_refl _) (Nat.le_refl _)) (ext_trans E3 e4)))) (fun _ h => h) (by omega) (by omega), u3⟩
theorem k_reason {n : Nat} (h : GR κ B bd σ ω t g c A) (hB : BD κ B bd σ ω) (hK : KS κ) (hT : KT κ) (hF : 64 ≤ F) (hw : WF n A) (key : Int32) : ∃ σ', f_X3_reason κ F (some g) key σ = some (if isDr A then .inl (vReason A key) else .inr "java/lang/IllegalStateException", σ') ∧ ext nT 2 6 σ ω σ' ω := by
  obtain ⟨S1, b1, b2⟩ := k_bedsFor (F := F) h hB hT hF hw key
  have h1 := GR_n h b2
  rw [f_X3_reason, f_X3_reason_0, k_ck h, gB1_s, b1]
  cases hd : isDr A with
  | false => exact ⟨S1, rfl, b2⟩
  | true =>
    refine ⟨S1, ?_, b2⟩
    rw [if_pos rfl, gB3_l, if_pos rfl]
    unfold vReason
    by_cases e : bedsFor A (dirL A (drD A)) key = -1000
    · rw [if_pos e, if_pos e, f_X3_reason_38]
    · rw [if_neg e, if_neg e, k_ck h1, gB1_s, k_diggable h1 hK (by omega), gB2_s, k_ck h1, gB1_s, k_inState h1 hK (by omega) (show 0 < 3 by decide), gB2_s, i3_add, ← many_sum]
      by_cases e2 : bedsFor A (dirL A (drD A)) key ≤ Int32.ofNat (many A)
      · rw [if_pos e2, if_pos e2, f_X3_reason_38]
      · rw [if_neg e2, if_neg e2, f_X3_reason_38]
theorem vReason_0 {A : aG} {key : Int32} : (vReason A key = 0) ↔ (bedsFor A (dirL A (drD A)) key ≠ -1000 ∧ ¬ Int32.ofNat (many A) < bedsFor A (dirL A (drD A)) key) := by
  unfold vReason
  by_cases e : bedsFor A (dirL A (drD A)) key = -1000
  · rw [if_pos e]; exact ⟨fun h => absurd h (by decide), fun h => absurd e h.1⟩
  · rw [if_neg e]
    by_cases e2 : bedsFor A (dirL A (drD A)) key ≤ Int32.ofNat (many A)
    · rw [if_pos e2]; exact ⟨fun _ => ⟨e, Int32.not_lt.mpr e2⟩, fun _ => rfl⟩
    · rw [if_neg e2]; exact ⟨fun h => absurd h (by decide), fun h => absurd (Int32.not_le.mp e2) h.2⟩
theorem size_leaf {a : Nat} {l : List (Int32 × Int32)} (hp : PG κ σ ω a (.inl l)) (hl : l.length < 1000) : f_X9_size κ F (some a) σ = some (Int32.ofNat l.length, σ) ∧ gck σ (some a) 2 = some () := by
  obtain ⟨ka, va, l1, l2, l3, l4, l5, l6⟩ := PG_leaf hp hl
  exact ⟨by rw [f_X9_size, f_X9_size_0, l1, gB1_s, l3, gB1_s], l6⟩
/-- a leaf of one entry -/
theorem k_newLeaf {key v : Int32} (hb : κ.1 ≤ σ.2.1) : ∃ o S1 S2 ω', gnw σ 2 g0_X9 2 = some (some o, gpush σ (.inr (2, g0_X9)) 2) ∧ gna (gpush σ (.inr (2, g0_X9)) 2) 0 (1 : Int32) = some (some (o + 1), gpush (gpush σ (.inr (2, g0_X9)) 2) (.inl (0, 1, .inl (fun _ => 0))) 1) ∧
    gsI κ (gpush (gpush σ (.inr (2, g0_X9)) 2) (.inl (0, 1, .inl (fun _ => 0))) 1) (some (o + 1)) (0 : Int32) key = some S1 ∧ gna S1 0 (1 : Int32) = some (some (o + 2), gpush S1 (.inl (0, 1, .inl (fun _ => 0))) 1) ∧ gsI κ (gpush S1 (.inl (0, 1, .inl (fun _ => 0))) 1) (some (o + 2)) (0 : Int32) v = some S2 ∧
    ∃ S3, f_X9_init κ F (some o) (some (o + 1)) (some (o + 2)) S2 = some ((), S3) ∧ ext nT 3 4 σ ω S3 ω' ∧ PG κ S3 ω' o (.inl [(key, v)]) := by
  have hω := own_all (σ := σ) (ω := ω)
  obtain ⟨p1, p2⟩ := push_oc (κ := κ) hω hb (.inr (2, g0_X9)) 2
  obtain ⟨q1, q2⟩ := push_oc (κ := κ) (om_mono hω p2) (Nat.le_trans hb p2.1) (.inl (0, 1, .inl (fun _ => 0))) 1
  have e2 := ext_trans p2 q2
  obtain ⟨s1, s2, s3⟩ := row_set (x := key) q1 (show 0 < 1 by decide) (by omega) e2 p2.1
  generalize hS1 : gup (gpush (gpush σ (.inr (2, g0_X9)) 2) (.inl (0, 1, .inl (fun _ => 0))) 1) (gpush σ (.inr (2, g0_X9)) 2).2.1 (.inl (0, 1, .inl (va_up (fun _ => 0) 0 key))) = S1 at s1 s2 s3
  have hS21 : S1.2.1 = σ.2.1 + 2 := by rw [← hS1]; rfl
  have p1' := oc_mv p1 q2 (fun h => h)
  have p1'' : oc κ S1 (own ω σ.2.1 0) 0 σ.2.1 (.inr (2, g0_X9)) := by rw [← hS1]; exact oc_up_ne p1' (oc_ne p1' q1 (by simp)) _
  obtain ⟨r1, r2⟩ := push_oc (κ := κ) (om_mono hω s3) (Nat.le_trans hb s3.1) (.inl (0, 1, .inl (fun _ => 0))) 1
  have e3 := ext_trans s3 r2
  obtain ⟨t1, t2, t3⟩ := row_set (x := v) r1 (show 0 < 1 by decide) (by omega) e3 s3.1
  have s2' := oc_mv s2 r2 (fun h => h)
  have hne : (gpush σ (.inr (2, g0_X9)) 2).2.1 ≠ S1.2.1 := by rw [hS21]; show σ.2.1 + 1 ≠ σ.2.1 + 2; omega
  have s2'' := oc_up_ne s2' hne (.inl (0, 1, .inl (va_up (fun _ => 0) 0 v)))
  have p2' := oc_mv p1'' r2 (fun h => h)
  have p3' := oc_up_ne p2' (oc_ne p2' r1 (by simp)) (.inl (0, 1, .inl (va_up (fun _ => 0) 0 v)))
  generalize hS2 : gup (gpush S1 (.inl (0, 1, .inl (fun _ => 0))) 1) S1.2.1 (.inl (0, 1, .inl (va_up (fun _ => 0) 0 v))) = S2 at t1 t2 t3 s2'' p3'
  obtain ⟨S3, i1, i2, i3, i4⟩ := init_2 (κ := κ) (F := F) (σ := σ) (k := (gpush σ (.inr (2, g0_X9)) 2).2.1) (v := S1.2.1) p3' t3 (Nat.le_refl _)
  refine ⟨σ.2.1, S1, S2, own ω σ.2.1 0, rfl, gna_0 (k := 1) (by omega), s1, ?_, ?_, S3, ?_, own_w (ext_mono i2 (fun _ h => h) (by omega) (by omega)), ?_⟩
  · rw [← hS21]; exact gna_0 (k := 1) (by omega)
  · rw [← hS21]; exact t1
  · rw [← hS21]; exact i1
  · refine ⟨_, _, _, _, i3, i4 _ _ s2'', i4 _ _ t2, fun i hi => ?_⟩
    have hi : i < 1 := hi
    have : i = 0 := by omega
    subst this
    exact ⟨vup_at _ _ _, vup_at _ _ _⟩
/-- put, behind its refusals -/
theorem k_put38 {n : Nat} (h : GR κ B bd σ ω t g c A) (hB : BD κ B bd σ ω) (hK : KS κ) (hT : KT κ) (hF : 64 ≤ F) (ht : 0 < t) (hw : WF n A) (hdr : isDr A = true) {key v : Int32} (h1 : bedsFor A (dirL A (drD A)) key ≠ -1000) (h2 : ¬ Int32.ofNat (many A) < bedsFor A (dirL A (drD A)) key) :
    ∃ σ' ω', f_X3_put_38 κ F (some g) key v (1 : Int32) σ = some (.inl (valBy A (drD A) key), σ') ∧ ext (gT t) 60 1000 σ ω σ' ω' ∧ GR κ B bd σ' ω' t g c (putA A key v) := by
  obtain ⟨pre1, pre2, pre3⟩ := put_pre hw hdr h1 h2
  obtain ⟨d0, hd0⟩ := isDr_d hdr
  obtain ⟨w1, w2, w3, w4, w5, w6, w7⟩ := WF_own hw hdr pre1
  obtain ⟨d, hdB⟩ := isDr_d w2
  have hDl := dirL_lt hw hd0
  have hlfc : ∀ b ∈ dirL A (drD A), leafL (ownDirA A) b = leafL A b := fun b hb => leafL_congr (w5 b hb).1
  have e1 := plc_congr (key := key) hlfc (dirL A (drD A)).length (Nat.le_refl _)
  obtain ⟨a, S1, ω1, o1, o2, o3, o4⟩ := k_ownDirectory (F := F) h hB hK hT hF ht hw hd0 pre1
  have hB1 := BD_T (T := gT t) ht hB o2
  obtain ⟨la, d1, d2, d3, d4⟩ := PG_dir o4 (by have := hDl.1; omega)
  rw [f_X3_put_38, k_reqState hT (b := true) (i := 31) (x := 1) (by decide) (by decide) rfl, if_pos rfl, if_pos rfl, gB3_l, k_ck h, gB1_s, k_drafted h hB hT hF hw key, hdr, if_pos rfl, if_pos rfl, gB3_l, k_ck h, gB1_s, o1, gB3_l, d1, gB1_s, d2, gB1_s]
  obtain ⟨DB, b1, b2, b3, b4, b5, b6, b7, b8, b9, b10, b11⟩ := WF_d w1 hdB
  unfold putA
  simp only
  rw [b4] at w4 ⊢
  rw [w4] at b3 b4 b6 b7 b8 ⊢
  by_cases hD : dirL A (drD A) = []
  · rw [if_pos (show Int32.ofNat (dirL A (drD A)).length = (0 : Int32) from by rw [hD]; rfl), if_pos hD]
    have hpos := pre2 hD
    have hnx := nxt_of hpos
    generalize nxt (ownDirA A) = b at hnx ⊢
    have hb := next_1 hnx
    have hbu := next_used hnx
    have hne : d.2.2 ≠ b := fun e => hbu (by rw [← e]; exact b5)
    obtain ⟨o, T1, T2, ω2, n1, n2, n3, n4, n5, T3, n6, n7, n8⟩ := k_newLeaf (κ := κ) (F := F) (ω := ω1) (key := key) (v := v) (k_base o3)
    have h2 := GR_n o3 n7
    have hB2 := BD_n hB1 n7
    obtain ⟨S3, ω3, z1, z2, z3⟩ := k_dig (F := F) h2 hB2 hK hT hF ht hdB (a := o) hnx n8
    have hB3 := BD_T (T := gT t) ht hB2 z2
    have o4' := PG_T ht (PG_n o4 n7) z2
    rw [hD] at o4'
    obtain ⟨q, S4, y1, y2, y3⟩ := k_dwith (κ := κ) (F := F) (x := b) (j := 0) (own_all (ω := ω3)) (k_base z3) hF (own_PG o4') (by decide) (by decide)
    have Y2 := own_w y2
    have h4 := GR_n z3 Y2
    have hB4 := BD_n hB3 Y2
    have hd3 := digA_d hdB b (.inl [(key, v)])
    have hsd : aSt (digA (ownDirA A) b (.inl [(key, v)])) d.2.2 ≠ 0 := by unfold aSt; rw [digA_11, if_neg hne]; rw [show ((ownDirA A).1 d.2.2).1 = 1 from b5]; decide
    obtain ⟨S5, ω5, u1, u2, u3⟩ := k_setDir (F := F) h4 hB4 hF ht hd3 (a := q) (p := .inr (ins [] 0 b)) b1 hsd y3
    have hck : gck S3 (some a) 3 = some () := by
      obtain ⟨la2, f2, x1, _⟩ := o4'
      rw [gck_u, x1.1]
      rfl
    refine ⟨S5, ω5, ?_, ext_mono (ext_trans o2 (ext_trans (nT_le n7 (Nat.le_refl _) (Nat.le_refl _)) (ext_trans z2 (ext_trans (nT_le Y2 (Nat.le_refl _) (Nat.le_refl _)) (ext_mono u2 (gT_k (t := t) (k := 1) (by omega)) (Nat.le_refl _) (Nat.le_refl _)))))) (fun _ h => h) (by omega) (by omega), ?_⟩
    · rw [n1, gB2_s, n2, gB2_s, n3, gB1_s, n4, gB2_s, n5, gB1_s, gsm_s, gB1_s, n6, gB2_s, k_ck h2, gB1_s, z1, gB3_l, hck, gB1_s]
      show gB2 (f_X5_with κ F (some a) (Int32.ofNat 0) (Int32.ofNat b) S3) _ = _
      rw [y1, gB2_s, k_ck h4, gB1_s, u1, gB2_s]
    · rw [b2]
      exact u3
  · have hlen : 0 < (dirL A (drD A)).length := List.length_pos_iff.mpr hD
    have hpl := plc_lt (A := A) (D := dirL A (drD A)) (key := key) _ hlen
    have h6 := hDl.1
    rw [if_neg (show ¬ Int32.ofNat (dirL A (drD A)).length = (0 : Int32) from fun e => by have := (i3_inj (b := 0) (by omega) (by omega)).mp e; omega), if_neg hD]
    have hVB := WF_vdr w1 hdB
    have hDB : okD (ownDirA A) d.2.2 (dirL A (drD A)) := by have := hVB.1; rw [dirL_of b3] at this; exact this
    have hpo := k_placeOf (F := F) o3 hB1 hF hDB h6 (fun b hb => by rw [hlfc b hb]; have := (hDl.2 b hb).2.1.2.1; omega) o4 key
    rw [e1] at hpo ⊢
    obtain ⟨pre4, pre5⟩ := pre3 hD
    have hmem : (dirL A (drD A)).getD (plc A (dirL A (drD A)) key (dirL A (drD A)).length) 0 ∈ dirL A (drD A) := getD_mem hpl
    generalize plc A (dirL A (drD A)) key (dirL A (drD A)).length = place at hpl hmem pre4 pre5 hpo ⊢
    have hget := d3 place hpl
    obtain ⟨g1, g2, g3, g4⟩ := hDl.2 _ hmem
    have hlA := hlfc _ hmem
    obtain ⟨v1, v2, v3, v4⟩ := okL_len hDB hmem
    obtain ⟨e, f1, f2⟩ := k_leaf (F := F) o3 hB1 hF v1 v2 v3
    have hpre4 : isNew (ownDirA A) ((dirL (ownDirA A) (drD (ownDirA A))).getD place 0) = false → 0 < many (ownDirA A) := by rw [b4]; exact pre4
    have hpl4 : place < (dirL (ownDirA A) (drD (ownDirA A))).length := by rw [b4]; exact hpl
    have hchW := fun l hl => WF_change (place := place) (l := l) w1 hdB w3 hpl4 hl hpre4
    rw [hlA] at v3 f2 ⊢
    generalize hL0 : leafL A ((dirL A (drD A)).getD place 0) = l at *
    obtain ⟨k1, k2, k3⟩ := withL_ok (key := key) (v := v) g2
    obtain ⟨o, S2, m1, m2, m3⟩ := k_lwith (κ := κ) (F := F) (key := key) (v := v) (own_all (ω := ω1)) (k_base o3) hF (own_PG f2) g2
    have M2 := own_w m2
    have h2 := GR_n o3 M2
    have hB2 := BD_n hB1 M2
    have hl5 : (withL l key v).length ≤ 5 := by rw [k3]; have := g2.2.1; split <;> omega
    obtain ⟨z1, z2⟩ := size_leaf (F := F) m3 (by omega)
    have hckl : gck S1 (some e) 2 = some () := (size_leaf (F := F) f2 (by have := g2.2.1; omega)).2
    rw [k_ck o3, gB1_s, hpo, gB2_s, d1, gB1_s, hget, gB1_s, k_ck o3, gB1_s, f1, gB2_s, hckl, gB1_s, m1, gB2_s, z2, gB1_s, z1, gB2_s]
    by_cases c5 : (withL l key v).length ≤ 4
    · obtain ⟨S3, ω3, y1, y2, y3⟩ := k_change (F := F) (place := place) h2 hB2 hK hT hF ht w1 hdB hpl4 m3 hpre4
      rw [if_neg (show ¬ (4 : Int32) < Int32.ofNat (withL l key v).length from by rw [L4, i3_lt (by omega) (by omega)]; omega), if_pos c5, k_ck h2, gB1_s, y1, gB3_l, f_X3_put_204]
      exact ⟨S3, ω3, rfl, ext_mono (ext_trans o2 (ext_trans (nT_le M2 (Nat.le_refl _) (Nat.le_refl _)) y2)) (fun _ h => h) (by omega) (by omega), y3⟩
    · have hk : lkp l key = none := by
        cases hx : lkp l key with
        | none => rfl
        | some i => rw [hx] at k3; have := g2.2.1; simp at k3; omega
      have h44 : l.length = 4 := by rw [hk] at k3; have := g2.2.1; simp at k3; omega
      have h5 : (withL l key v).length = 5 := by rw [k3, hk, h44]; rfl
      obtain ⟨r1, r2⟩ := pre5 hk h44
      have ok3 : okL ((withL l key v).take 3) := ⟨(fun e => by have := congrArg List.length e; rw [List.length_take, h5] at this; cases this), by rw [List.length_take]; omega, List.Pairwise.sublist (List.take_sublist _ _) k1⟩
      obtain ⟨cc, q1, q2, q3, q4, q5, q6, q7, q8, q9, q10, q11, q12, q13, q14, q15⟩ := hchW _ ok3
      rw [b4] at q12 q5
      have hposC : 0 < many (changeA (ownDirA A) place ((withL l key v).take 3)) := by omega
      -- the lower part
      obtain ⟨o2', S3, p1, p2, p3⟩ := k_part (κ := κ) (F := F) (from' := 0) (to := 3) (own_all (ω := own ω1 S1.2.1 0)) (k_base h2) (own_PG m3) hl5 (by omega) (by omega)
      have P2 := own_w p2
      have h3 := GR_n h2 P2
      have hB3 := BD_n hB2 P2
      have m3' := PG_n m3 P2
      rw [List.drop_zero, Nat.sub_zero] at p3
      obtain ⟨S4, ω4, y1, y2, y3⟩ := k_change (F := F) (place := place) h3 hB3 hK hT hF ht w1 hdB hpl4 p3 hpre4
      have hB4 := BD_T (T := gT t) ht hB3 y2
      have m4' := PG_T ht m3' y2
      obtain ⟨zz1, zz2⟩ := size_leaf (F := F) m4' (by omega)
      -- the upper part
      obtain ⟨o5, S5, s1, s2, s3⟩ := k_part (κ := κ) (F := F) (from' := 3) (to := (withL l key v).length) (own_all (ω := ω4)) (k_base y3) (own_PG m4') hl5 (by omega) (Nat.le_refl _)
      have T2 := own_w s2
      have h5' := GR_n y3 T2
      have hB5 := BD_n hB4 T2
      rw [List.take_of_length_le (by rw [List.length_drop]; omega)] at s3
      obtain ⟨dC, hdC⟩ := isDr_d q2
      have hnx := nxt_of hposC
      rw [if_pos (show (4 : Int32) < Int32.ofNat (withL l key v).length from by rw [L4, i3_lt (by omega) (by omega)]; omega), if_neg c5]
      generalize hCe : changeA (ownDirA A) place ((withL l key v).take 3) = C at *
      generalize nxt C = b at hnx ⊢
      have hb := next_1 hnx
      have hbu := next_used hnx
      obtain ⟨S6, ω6, u1, u2, u3⟩ := k_dig (F := F) h5' hB5 hK hT hF ht hdC (a := o5) hnx s3
      have hB6 := BD_T (T := gT t) ht hB5 u2
      obtain ⟨DC, x1, x2, x3, x4, x5, x6, x7, x8, x9, x10, x11⟩ := WF_d q1 hdC
      have hneC : dC.2.2 ≠ b := fun e => hbu (by rw [← e]; exact x5)
      have hd6 := digA_d hdC b (.inl ((withL l key v).drop 3))
      have hDC : DC = (dirL A (drD A)).set place cc := by rw [← x4, q4, q5]
      have hst6 : aSt (digA C b (.inl ((withL l key v).drop 3))) dC.2.2 ≠ 0 ∧ aPg (digA C b (.inl ((withL l key v).drop 3))) dC.2.2 = .inr DC := by
        unfold aSt aPg; rw [digA_11, if_neg hneC]; exact ⟨by rw [show (C.1 dC.2.2).1 = 1 from x5]; decide, x3⟩
      obtain ⟨da, fs, ls, k1', k2', k3', k4'⟩ := k_dr u3 hd6
      obtain ⟨a6, a61, a62⟩ := k_directory (F := F) u3 hB6 hF x1 hst6.1 hst6.2
      have hckd : gck S6 (some a6) 3 = some () := by
        obtain ⟨la2, f2, x1, _⟩ := a62
        rw [gck_u, x1.1]
        rfl
      obtain ⟨q, S7, yy1, yy2, yy3⟩ := k_dwith (κ := κ) (F := F) (x := b) (j := place + 1) (own_all (ω := ω6)) (k_base u3) hF (own_PG a62) x6 (by rw [hDC, List.length_set]; omega)
      have Y2 := own_w yy2
      have h7 := GR_n u3 Y2
      have hB7 := BD_n hB6 Y2
      obtain ⟨S8, ω8, t1, t2, t3⟩ := k_setDir (F := F) h7 hB7 hF ht hd6 (a := q) (p := .inr (ins DC (place + 1) b)) x1 hst6.1 yy3
      refine ⟨S8, ω8, ?_, ext_mono (ext_trans o2 (ext_trans (nT_le M2 (Nat.le_refl _) (Nat.le_refl _)) (ext_trans (nT_le P2 (Nat.le_refl _) (Nat.le_refl _)) (ext_trans y2 (ext_trans (nT_le T2 (Nat.le_refl _) (Nat.le_refl _)) (ext_trans u2 (ext_trans (nT_le Y2 (Nat.le_refl _) (Nat.le_refl _)) (ext_mono t2 (gT_k (t := t) (k := 1) (by omega)) (Nat.le_refl _) (Nat.le_refl _))))))))) (fun _ h => h) (by omega) (by omega), ?_⟩
      · rw [z2, gB1_s]
        show gB2 (f_X9_part κ F (some o) (Int32.ofNat 0) (Int32.ofNat 3) S2) _ = _
        rw [p1, gB2_s, k_ck h3, gB1_s, y1, gB3_l, zz2, gB1_s, zz1, gB2_s, zz2, gB1_s]
        show gB2 (f_X9_part κ F (some o) (Int32.ofNat 3) (Int32.ofNat (withL l key v).length) S4) _ = _
        rw [s1, gB2_s, k_ck h5', gB1_s, u1, gB3_l, k_f6 u3, k1', gB1_s, (k_drI k2').2.2.2, gB1_s, k_ck u3, gB1_s, a61, gB2_s, hckd, gB1_s, i3_s, yy1, gB2_s, k_ck h7, gB1_s, t1, gB2_s, f_X3_put_204]
      · rw [x2, dirL_of x3]
        exact t3
end C
