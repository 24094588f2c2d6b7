/-! the reference: put -/
theorem inR_nat {v : Int32} {b : Nat} (hb : b < 2147483648) (h : inR v 0 (Int32.ofNat b) = true) : ∃ s, s ≤ b ∧ v = Int32.ofNat s := by
  unfold inR at h
  obtain ⟨h1, h2⟩ := of_decide_eq_true h
  rw [Int32.le_iff_toInt_le] at h1 h2
  rw [Int32.toInt_ofNat_small hb] at h2
  have h1 : 0 ≤ v.toInt := h1
  refine ⟨v.toInt.toNat, by omega, ?_⟩
  rw [← Int32.toInt_inj, Int32.toInt_ofNat_small (by omega)]
  omega
theorem pof_spec {l : List (Int32 × Int32)} {key : Int32} (h : srt l) (hn : ∀ q ∈ l, q.1 ≠ key) : ∀ i, i < l.length → ((l.getD i (0, 0)).1 < key ↔ i < pof l key) := by
  unfold srt at h
  induction l with
  | nil => intro i hi; cases hi
  | cons a l ih =>
    rw [List.pairwise_cons] at h
    intro i hi
    rw [pof_cons]
    by_cases c : key ≤ a.1
    · rw [if_pos c]
      constructor
      · intro e
        exfalso
        cases i with
        | zero => exact absurd c (Int32.not_le.mpr e)
        | succ i =>
          have hi : i < l.length := by simpa using hi
          have e : (l.getD i (0, 0)).1 < key := e
          exact absurd (Int32.le_trans c (Int32.le_of_lt (h.1 _ (getD_mem hi)))) (Int32.not_le.mpr e)
      · intro e; omega
    · rw [if_neg c]
      cases i with
      | zero => exact ⟨fun _ => by omega, fun _ => Int32.not_le.mp c⟩
      | succ i =>
        have hi : i < l.length := by simpa using hi
        have := ih h.2 (fun q hq => hn q (List.mem_cons_of_mem _ hq)) i hi
        show (l.getD i (0, 0)).1 < key ↔ i + 1 < pof l key + 1
        rw [this]
        omega
theorem pof_found {l : List (Int32 × Int32)} {key : Int32} {i : Nat} (h : srt l) (hk : lkp l key = some i) : pof l key = i := by
  unfold srt at h
  induction l generalizing i with
  | nil => cases hk
  | cons a l ih =>
    rw [List.pairwise_cons] at h
    rw [pof_cons]
    unfold lkp at hk ih
    rw [List.findIdx?_cons] at hk
    by_cases c : (a.1 == key) = true
    · rw [if_pos c] at hk
      cases hk
      have := eq_of_beq c
      rw [if_pos (by rw [this]; exact Int32.le_refl _)]
    · rw [if_neg c] at hk
      cases hx : List.findIdx? (fun q => q.1 == key) l with
      | none => rw [hx] at hk; cases hk
      | some j =>
        rw [hx] at hk
        cases hk
        have hj := lkp_some (l := l) (key := key) (i := j) hx
        have hlt : a.1 < key := by rw [← hj.2]; exact h.1 _ (getD_mem hj.1)
        rw [if_neg (Int32.not_le.mpr hlt), ih h.2 hx]
theorem MRt_lay {P P' : mR} {A A' : aG} (h : MRt P A) (h2 : A'.2 = A.2) (hP : ∀ j, 466 ≤ j → P' j = P j) : MRt P' A' := by
  obtain ⟨t1, t2, t3⟩ := h
  have hn : nowD A' = nowD A := (rt_congr (by rw [h2])).2.2.1
  have hd : aDr A' = aDr A := by unfold aDr; rw [h2]
  unfold MRt
  rw [hd, hP 466 (by omega), hP 467 (by omega), hP 468 (by omega), hP 469 (by omega), hn]
  exact ⟨t1, by rw [t2]; unfold aCm; rw [h2], by rw [t3]; unfold aLs; rw [h2]⟩
/-- a change of the draft's leaf, then another -/
theorem layA_change {n : Nat} {A : aG} (hw : WF n A) {d : aD} (hd : aDr A = some d) {place c : Nat} (hp : place < (dirL A (drD A)).length) (hn : isNew A ((dirL A (drD A)).getD place 0) = false → 0 < many A) (hc : c = (if isNew A ((dirL A (drD A)).getD place 0) then (dirL A (drD A)).getD place 0 else nxt A)) (l q : List (Int32 × Int32)) :
    layA (changeA A place l) c (.inl q) = changeA A place q := by
  obtain ⟨D, a1, a2, a3, a4, a5, a6, a7, a8, a9, a10, a11⟩ := WF_d hw hd
  unfold changeA
  rw [a4] at hp hc hn ⊢
  have hlf := a8 _ (getD_mem (x := 0) hp)
  simp only
  by_cases e : isNew A (D.getD place 0) = true
  · rw [if_pos e] at hc
    rw [if_pos e, if_pos e, hc, layA_layA]
  · rw [if_neg e] at hc
    have e' : isNew A (D.getD place 0) = false := by cases hx : isNew A (D.getD place 0) with | false => rfl | true => exact absurd hx e
    have hnx := nxt_of (hn e')
    have hbu := next_used hnx
    have h1 : D.getD place 0 ≠ c := fun e2 => hbu (by rw [← hc, ← e2]; exact hlf.2.2.1)
    have h2 : drD A ≠ c := fun e2 => hbu (by rw [← hc, ← e2, a2]; exact a5)
    rw [if_neg e, if_neg e, layA_leaveA h1, layA_comm h2, ← hc, layA_digA]
/-- the beds that a put wants are there -/
theorem put_pre {n : Nat} {A : aG} (h : WF n A) (hd : isDr A = true) {key : Int32} (h1 : bedsFor A (dirL A (drD A)) key ≠ -1000) (h2 : ¬ Int32.ofNat (many A) < bedsFor A (dirL A (drD A)) key) :
    (anyNew A = false → 0 < many A) ∧ (dirL A (drD A) = [] → 0 < many (ownDirA A)) ∧
    (dirL A (drD A) ≠ [] → (isNew (ownDirA A) ((dirL A (drD A)).getD (plc A (dirL A (drD A)) key (dirL A (drD A)).length) 0) = false → 0 < many (ownDirA A)) ∧
      ((lkp (leafL A ((dirL A (drD A)).getD (plc A (dirL A (drD A)) key (dirL A (drD A)).length) 0)) key) = none → (leafL A ((dirL A (drD A)).getD (plc A (dirL A (drD A)) key (dirL A (drD A)).length) 0)).length = 4 →
        (dirL A (drD A)).length ≤ 5 ∧ (if isNew (ownDirA A) ((dirL A (drD A)).getD (plc A (dirL A (drD A)) key (dirL A (drD A)).length) 0) then 0 else 1) < many (ownDirA A))) := by
  have hm32 := many_le A
  obtain ⟨d0, hd0⟩ := isDr_d hd
  have hDl := dirL_lt h hd0
  cases hD : dirL A (drD A) with
  | nil =>
    rw [hD] at h2
    have hb := b01 (a := anyNew A) (b := false) (c := false) hm32 (by simpa [bedsFor] using h2)
    have hm : anyNew A = false → 0 < many A := fun e => by rw [e] at hb; simp at hb; omega
    have w6 := (WF_own h hd hm).2.2.2.2.2.1
    exact ⟨hm, fun _ => by simp at hb; omega, fun e => absurd rfl e⟩
  | cons x D =>
    rw [hD] at h1 h2 hDl
    unfold bedsFor at h1 h2
    simp only at h1 h2
    have hpl := plc_lt (A := A) (D := x :: D) (key := key) (x :: D).length (by simp)
    have hmem : (x :: D).getD (plc A (x :: D) key (x :: D).length) 0 ∈ x :: D := getD_mem hpl
    generalize hlfe : (x :: D).getD (plc A (x :: D) key (x :: D).length) 0 = lf at *
    split at h1
    · exact absurd rfl h1
    · rename_i hc
      rw [if_neg hc] at h2
      have hb := b01 hm32 h2
      have hm : anyNew A = false → 0 < many A := fun e => by rw [e] at hb; simp at hb; omega
      obtain ⟨w1, w2, w3, w4, w5, w6, w7⟩ := WF_own h hd hm
      have hnw := (w5 lf (by rw [hD]; exact hmem)).2
      rw [hnw]
      refine ⟨hm, fun e => (by cases e), fun _ => ⟨fun e => by rw [e] at hb; simp at hb; omega, fun k1 k2 => ?_⟩⟩
      simp only [k1, k2, Option.isNone_none, decide_true, Bool.true_and, decide_eq_true_eq] at hc
      have hle := hDl.1
      simp [k1, k2] at hb
      refine ⟨by omega, by omega⟩
theorem i10 : ((1 : Int32) = 0) = False := eq_false (by decide)
section Q
variable {κ : gK} {F : Nat} {m : Nat} {V : mV} {σ : gS}
theorem q_in (v a b : Int32) (s : gS) : f_X6_in κ F v a b s = some (if inR v a b then 1 else 0, s) := by
  rw [f_X6_in, f_X6_in_0]
  unfold inR
  by_cases c1 : v < a
  · rw [if_pos c1, f_X6_in_14, f_X6_in_15, gok_z0, gB1_s, if_neg]
    exact fun e => absurd (of_decide_eq_true e).1 (Int32.not_le.mpr c1)
  · rw [if_neg c1]
    by_cases c2 : b < v
    · rw [if_pos c2, f_X6_in_14, f_X6_in_15, gok_z0, gB1_s, if_neg]
      exact fun e => absurd (of_decide_eq_true e).2 (Int32.not_le.mpr c2)
    · rw [if_neg c2, f_X6_in_15, gok_z1, gB1_s, if_pos (decide_eq_true ⟨Int32.not_lt.mp c1, Int32.not_lt.mp c2⟩)]
theorem WF_okD {n : Nat} {A : aG} (hw : WF n A) (hd : isDr A = true) : okD A (drD A) (dirL A (drD A)) := by
  obtain ⟨d, hd⟩ := isDr_d hd
  obtain ⟨g1, g2, g3⟩ := hw.2 d hd
  rw [drD_d hd]
  exact VR_okD g1 (fun b hb => by rw [(g2 b hb).1]; decide)
/-- put, behind its refusals -/
theorem q_put51 {n : Nat} {A : aG} (h : MR (vp V) A) (hw : WF n A) (hm : κ.1 ≤ m) (hF : 40 ≤ F) (hdr : isDr A = true) {key v : Int32} (h1 : bedsFor A (dirL A (drD A)) key ≠ -1000) (h2 : ¬ Int32.ofNat (many A) < bedsFor A (dirL A (drD A)) key) :
    ∃ R P', f_X6_doPut_51 κ F (some m) key v (bedsFor A (dirL A (drD A)) key) (MH m V σ) = some (valBy A (drD A) key, MH m (wp (wrw V R) P') σ) ∧ MR P' (putA A key v) := by
  obtain ⟨pre1, pre2, pre3⟩ := put_pre hw hdr h1 h2
  obtain ⟨d0, hd0⟩ := isDr_d hdr
  obtain ⟨w1, w2, w3, w4, w5, w6, w7⟩ := WF_own hw hdr pre1
  obtain ⟨d, hdB⟩ := isDr_d w2
  have hDl := dirL_lt hw hd0
  have hlfc : ∀ b ∈ dirL A (drD A), leafL (ownDirA A) b = leafL A b := fun b hb => leafL_congr (w5 b hb).1
  have e1 := plc_congr (key := key) hlfc (dirL A (drD A)).length (Nat.le_refl _)
  obtain ⟨P1, x1, x2⟩ := q_directory (κ := κ) (F := F) (m := m) (V := V) (σ := σ) h hw hm hF hdr pre1
  have x3 := q_placeFor (κ := κ) (F := F) (m := m) (V := wp V P1) (σ := σ) (MR_0 x2) hF (WF_okD w1 w2) key
  have hMany : bedsFor A (dirL A (drD A)) key ≤ Int32.ofNat (many A) := Int32.not_lt.mp h2
  rw [f_X6_doPut_51, if_neg h1, MH_ck, gB1_s, q_many (MR_0 h) hF, gB2_s, if_pos hMany, MH_ck, gB1_s, x1, gB2_s, MH_ck, gB1_s, x3, gB2_s]
  obtain ⟨DB, b1, b2, b3, b4, b5, b6, b7, b8, b9, b10, b11⟩ := WF_d w1 hdB
  unfold putA
  simp only
  rw [b4] at w4 ⊢
  rw [w4] at b3 b4 b6 b7 b8 ⊢
  have hB32 : drD (ownDirA A) < 32 := by rw [b2]; exact b1
  by_cases hD : dirL A (drD A) = []
  · rw [if_pos hD, if_neg (by decide), if_pos hD]
    have hpos := pre2 hD
    have hnx := nxt_of hpos
    generalize nxt (ownDirA A) = c at hnx ⊢
    have hc := next_1 hnx
    have hcu := next_used hnx
    have hlc : isLeft (ownDirA A) c = false := by
      cases hx : isLeft (ownDirA A) c with
      | false => rfl
      | true => rw [isLeft_d hdB] at hx; exact absurd (b11 c hc.1 hx) hcu
    have hne : d.2.2 ≠ c := fun e => hcu (by rw [← e]; exact b5)
    obtain ⟨P2, y1, y2, y3, y4⟩ := q_dig (κ := κ) (F := F) (m := m) (V := wp V P1) (σ := σ) (MR_0 x2) hm hF w2 hnx hlc (x := 0) (p := .inl []) (Or.inl ⟨rfl, rfl⟩)
    have pc : aPg (digA (ownDirA A) c (.inl [])) c = .inl [] ∧ aSt (digA (ownDirA A) c (.inl [])) c ≠ 0 := by unfold aPg aSt; rw [digA_11, if_pos rfl]; exact ⟨rfl, Nat.one_ne_zero⟩
    obtain ⟨P3, z1, z2, z3⟩ := q_inserts (κ := κ) (F := F) (m := m) (V := wp V P2) (σ := σ) (key := key) (v := v) (j := 0) y2 hm hF y3 pc.2 pc.1 (by decide) (by decide) (fun i _ hi => absurd hi (Nat.not_lt_zero _)) (Or.inl rfl)
    rw [layA_digA] at z2
    have pd : (digA (ownDirA A) c (.inl (ins [] 0 (key, v)))).1 d.2.2 = (ownDirA A).1 d.2.2 := by rw [digA_11, if_neg hne]
    rw [hD] at b3
    obtain ⟨P4, u1, u2, u3⟩ := q_insertLeaf (κ := κ) (F := F) (m := m) (V := wp V P3) (σ := σ) (c := c) (j := 0) z2 hm hF (b := d.2.2) b1 (by unfold aSt; rw [pd]; rw [show ((ownDirA A).1 d.2.2).1 = 1 from b5]; decide) (by unfold aPg; rw [pd]; exact b3) (by decide) (by decide)
    have dL : aDr (layA (digA (ownDirA A) c (.inl [(key, v)])) d.2.2 (.inr [c])) = some (va_up d.1 c true, d.2) := digA_d hdB c _
    refine ⟨vrw V, P4, ?_, MR_mk (by rw [b2]; exact u2) (MRt_keep (d' := (va_up d.1 c true, d.2)) (MRt_of x2) w3 (by rw [b2]; exact dL) b2.symm ⟨c, hc.1, vup_at _ _ _⟩ (digA_1 _ c _).2.2.2 (fun j hj => ?_))⟩
    · have hv : valBy A (drD A) key = -1000 := by unfold valBy; rw [hD]
      rw [MH_ck, gB1_s, y1, gB2_s, MH_ck, gB1_s, wp_wp, z1, gB2_s, MH_ck, gB1_s, wp_wp, b2]
      show gB2 (f_X6_insertLeaf κ F (some m) (Int32.ofNat d.2.2) (Int32.ofNat 0) (Int32.ofNat c) (MH m (wp V P3) σ)) _ = _
      rw [u1, gB2_s, hv]
      rfl
    · rw [u3 _ (by omega)]
      show P3 j = _
      rw [z3 _ (by omega)]
      show P2 j = _
      rw [y4 _ (by omega)]
      rfl
  · have hlen : 0 < (dirL A (drD A)).length := List.length_pos_iff.mpr hD
    have hpl := plc_lt (A := A) (D := dirL A (drD A)) (key := key) _ hlen
    rw [if_neg hD, if_pos (Int32.not_lt.mp (i3_ok (by have := hDl.1; omega)).1), if_neg hD]
    rw [e1]
    obtain ⟨pre4, pre5⟩ := pre3 hD
    have hmem : (dirL A (drD A)).getD (plc A (dirL A (drD A)) key (dirL A (drD A)).length) 0 ∈ dirL A (drD A) := getD_mem hpl
    have hvb : valBy A (drD A) key = (match lkp (leafL A ((dirL A (drD A)).getD (plc A (dirL A (drD A)) key (dirL A (drD A)).length) 0)) key with | none => -1000 | some i => ((leafL A ((dirL A (drD A)).getD (plc A (dirL A (drD A)) key (dirL A (drD A)).length) 0)).getD i (0, 0)).2) := by
      unfold valBy
      cases hx : dirL A (drD A) with
      | nil => exact absurd hx hD
      | cons x D => rfl
    rw [hvb]
    generalize plc A (dirL A (drD A)) key (dirL A (drD A)).length = place at hpl hmem pre4 pre5 ⊢
    obtain ⟨P2, c, y1, y2, y3⟩ := q_ownLeaf (κ := κ) (F := F) (m := m) (V := wp V P1) (σ := σ) (place := place) x2 w1 hm hF hdB w3 (by rw [b4]; exact hpl) (by rw [b4]; exact pre4)
    rw [b4] at y2 y3
    have hlA := hlfc _ hmem
    obtain ⟨g1, g2, g3, g4⟩ := hDl.2 _ hmem
    obtain ⟨cc, q1, q2, q3, q4, q5, q6, q7, q8, q9, q10, q11, q12, q13, q14, q15⟩ := WF_change (place := place) (l := leafL (ownDirA A) ((dirL A (drD A)).getD place 0)) w1 hdB w3 (by rw [b4]; exact hpl) (by rw [hlA]; exact g2) (by rw [b4]; exact pre4)
    rw [b4] at q5 q6 q12
    have hcc : cc = c := by rw [q6, y3]
    subst hcc
    have hchg := fun q => layA_change (place := place) (c := cc) w1 hdB (by rw [b4]; exact hpl) (by rw [b4]; exact pre4) (by rw [b4]; exact y3) (leafL (ownDirA A) ((dirL A (drD A)).getD place 0)) q
    rw [hlA] at q1 q2 q3 q4 q5 q8 q9 q10 q12 y2 hchg ⊢
    generalize hL0 : leafL A ((dirL A (drD A)).getD place 0) = l at *
    generalize hC0 : changeA (ownDirA A) place l = C0 at *
    obtain ⟨k1, k2, k3⟩ := withL_ok (key := key) (v := v) g2
    rw [MH_ck, gB1_s, y1, gB2_s, MH_ck, gB1_s, wp_wp, q_placeIn (MR_0 y2) hF q7 (by rw [q8]; decide) q9 key, gB2_s]
    cases hk : lkp l key with
    | some i =>
      obtain ⟨i1, i2⟩ := lkp_some hk
      have hw4 : (withL l key v).length ≤ 4 := by rw [k3, hk]; have := g2.2.1; simpa using this
      have hwl : withL l key v = l.set i (key, v) := by unfold withL; rw [hk]
      rw [if_pos hw4, ← hchg, hwl]
      obtain ⟨P3, z1, z2, z3⟩ := q_setE (κ := κ) (F := F) (m := m) (V := wp V P2) (σ := σ) (k := key) (v := v) (MR_0 y2) hm q7 (by rw [q8]; decide) q9 i1
      have qv : f_X6_valueAt κ F (some m) (Int32.ofNat cc) (Int32.ofNat i) (MH m (wp V P2) σ) = some ((l.getD i (0, 0)).2, MH m (wp V P2) σ) := by
        have := g2.2.1
        rw [q_valueAt (V := wp V P2) (by omega)]
        show some (P2 _, _) = _
        rw [((MR_leaf (MR_0 y2) q7 (by rw [q8]; decide) q9).2.2.2 i i1).2]
      refine ⟨vrw V, P3, ?_, MR_mk z2 (MRt_lay (MRt_of y2) rfl (fun j hj => z3 j (by omega)))⟩
      have hi4 := g2.2.1
      show (if Int32.ofNat i < 0 then _ else _) = _
      rw [if_neg (i3_ok (by omega)).1, MH_ck, gB1_s]
      show gB2 (f_X6_valueAt κ F (some m) (Int32.ofNat cc) (Int32.ofNat i) (MH m (wp V P2) σ)) _ = _
      rw [qv, gB2_s, MH_ck, gB1_s]
      show gB2 (f_X6_setEntry κ F (some m) (Int32.ofNat cc) (Int32.ofNat i) key v (MH m (wp V P2) σ)) _ = _
      rw [z1, gB2_s]
      rfl
    | none =>
      have hps := pof_spec g2.2.2 (lkp_none.mp hk)
      have hwl : withL l key v = ins l (pof l key) (key, v) := by unfold withL; rw [hk]
      have k3 : (withL l key v).length = l.length + 1 := by rw [k3, hk]; rfl
      have hl4 := g2.2.1
      have hof : f_X6_of κ F (some m) (Int32.ofNat cc) (2 : Int32) (MH m (wp V P2) σ) = some (Int32.ofNat l.length, MH m (wp V P2) σ) := by
        rw [q_of2 (V := wp V P2) q7]
        show some (P2 _, _) = _
        rw [(MR_leaf (MR_0 y2) q7 (by rw [q8]; decide) q9).2.1]
      rw [if_pos (by decide), MH_ck, gB1_s, hof, gB2_s]
      by_cases c4 : l.length = 4
      · have hgt : ¬ (withL l key v).length ≤ 4 := by omega
        rw [if_pos (by rw [c4]; rfl), if_neg hgt, MH_ck, gB1_s]
        obtain ⟨r1, r2⟩ := pre5 hk c4
        obtain ⟨dC, hdC⟩ := isDr_d q2
        obtain ⟨DC, v1, v2, v3, v4, v5, v6, v7, v8, v9, v10, v11⟩ := WF_d q1 hdC
        have hDC : DC = (dirL A (drD A)).set place cc := by rw [← v4, q4, q5]
        have hdd : dC.2.2 = d.2.2 := by rw [← v2, q4, b2]
        have hpos : 0 < many C0 := by omega
        have hnx := nxt_of hpos
        have hnl : nxt (changeA (ownDirA A) place ((withL l key v).take 3)) = nxt C0 := by rw [← hchg]; unfold nxt; rw [next_layA]
        rw [hnl, ← hchg]
        generalize nxt C0 = c2 at hnx ⊢
        have hc2 := next_1 hnx
        have hcu := next_used hnx
        have hlc : isLeft C0 c2 = false := by
          cases hx : isLeft C0 c2 with
          | false => rfl
          | true => rw [isLeft_d hdC] at hx; exact absurd (v11 c2 hc2.1 hx) hcu
        have hcd : c2 ≠ dC.2.2 := fun e => hcu (by rw [e]; exact v5)
        have hccl : c2 ≠ cc := fun e => hcu (by rw [e]; exact q8)
        obtain ⟨R, P3, z1, z2, z3⟩ := q_splits (κ := κ) (F := F) (m := m) (V := wp V P2) (σ := σ) (place := place) (key := key) (v := v) (j := pof l key) (MR_0 y2) hm hF q2 v1 (by rw [v5]; decide) v3 (by rw [hDC, List.length_set]; exact r1) (by rw [hDC, List.length_set]; exact hpl) q7 (by rw [q8]; decide) q9 c4 hnx hlc hcd hccl (by have := pof_le l key; omega) (fun i hi => hps i (by omega))
        rw [← hwl, layA_digA_ne hccl, layA_digA, hDC] at z2
        have hDl2 : drD (layA C0 cc (.inl ((withL l key v).take 3))) = dC.2.2 ∧ dirL (layA C0 cc (.inl ((withL l key v).take 3))) dC.2.2 = (dirL A (drD A)).set place cc := by
          refine ⟨v2, ?_⟩
          have : aPg (layA C0 cc (.inl ((withL l key v).take 3))) dC.2.2 = .inr DC := by
            unfold aPg
            rw [layA_1, if_neg (fun e => q11 (by rw [← e, hdd, b2]))]
            exact v3
          rw [dirL_of this, hDC]
        rw [hDl2.1, hDl2.2]
        have dL : aDr (layA (digA (layA C0 cc (.inl ((withL l key v).take 3))) c2 (.inl ((withL l key v).drop 3))) dC.2.2 (.inr (ins ((dirL A (drD A)).set place cc) (place + 1) c2))) = some (va_up dC.1 c2 true, dC.2) := digA_d (A := layA C0 cc (.inl ((withL l key v).take 3))) hdC c2 _
        refine ⟨R, P3, ?_, MR_mk z2 (MRt_keep (d' := (va_up dC.1 c2 true, dC.2)) (MRt_of y2) q3 dL v2.symm ⟨c2, hc2.1, vup_at _ _ _⟩ (digA_1 (layA C0 cc (.inl ((withL l key v).take 3))) c2 _).2.2.2 (fun j hj => z3 j (by omega)))⟩
        rw [b2, ← hdd, z1, gB2_s, f_X6_doPut_202]
        rfl
      · have hle : (withL l key v).length ≤ 4 := by omega
        have hne4 : ¬ Int32.ofNat l.length = (4 : Int32) := fun e => c4 ((i3_inj (b := 4) (by omega) (by omega)).mp e)
        rw [if_neg hne4, if_pos hle, ← hchg, hwl, MH_ck, gB1_s]
        have hnk := lkp_none.mp hk
        obtain ⟨P3, z1, z2, z3⟩ := q_inserts (κ := κ) (F := F) (m := m) (V := wp V P2) (σ := σ) (key := key) (v := v) (j := pof l key) (MR_0 y2) hm hF q7 (by rw [q8]; decide) q9 (by omega) (pof_le l key)
          (fun i hi hi2 => Int32.lt_of_le_of_ne (Int32.not_lt.mp (fun e => by have := (hps i hi2).mp e; omega)) (fun e => hnk _ (getD_mem hi2) e.symm))
          (by
            rcases Nat.eq_zero_or_pos (pof l key) with e | e
            · exact Or.inl e
            · exact Or.inr (Int32.le_of_lt ((hps (pof l key - 1) (by have := pof_le l key; omega)).mpr (by omega))))
        refine ⟨vrw V, P3, ?_, MR_mk z2 (MRt_lay (MRt_of y2) rfl (fun j hj => z3 j (by omega)))⟩
        rw [z1, gB2_s, f_X6_doPut_202]
        rfl
theorem q_doPut {n : Nat} {A : aG} (h : MR (vp V) A) (hw : WF n A) (hm : κ.1 ≤ m) (hF : 40 ≤ F) (key v : Int32) :
    (∀ c, spPut A key v = .inr c → f_X6_doPut κ F (some m) key v (MH m V σ) = some (0, MH m (wco V c) σ)) ∧
    (∀ A' r, spPut A key v = .inl (A', r) → WF n A' ∧ ∃ R P', f_X6_doPut κ F (some m) key v (MH m V σ) = some (r, MH m (wp (wrw V R) P') σ) ∧ MR P' A') := by
  have hg : gaI (MH m V σ) (some (m + 1)) 0 (466 : Int32) = some (vp V 466) := MH_gvp (k := 466) rfl (by omega)
  have h6 := q_p466 h
  unfold spPut
  rw [f_X6_doPut, f_X6_doPut_0, q_in, gB2_s]
  cases c1 : inR key 0 99 with
  | false =>
    simp only [Bool.false_and, Bool.false_eq_true, if_false, if_true, eq_self, f_X6_doPut_23, MH_ck, gB1_s, q_refuse hm, gB2_s]
    exact ⟨fun c e => by cases e; rfl, fun A' r e => by cases e⟩
  | true =>
    simp only [Bool.true_and, if_true, eq_self, i10, if_false, q_in, gB2_s]
    cases c2 : inR v (-999) 999 with
    | false =>
      simp only [Bool.false_eq_true, if_false, if_true, eq_self, f_X6_doPut_23, MH_ck, gB1_s, q_refuse hm, gB2_s]
      exact ⟨fun c e => by cases e; rfl, fun A' r e => by cases e⟩
    | true =>
      simp only [if_true, eq_self, i10, if_false, MH_rvp, gB1_s, hg, h6]
      cases c3 : isDr A with
      | false =>
        simp only [Bool.false_eq_true, if_false, if_true, eq_self, f_X6_doPut_51, f_X6_doPut_67, MH_ck, gB1_s, q_refuse hm, gB2_s]
        exact ⟨fun c e => by cases e; rfl, fun A' r e => by cases e⟩
      | true =>
        simp only [if_true, eq_self, i10, if_false, MH_ck, gB1_s, q_bedsOf h hF hw.1.1 (WF_okD hw c3) key, gB2_s]
        by_cases c4 : bedsFor A (dirL A (drD A)) key = -1000 ∨ Int32.ofNat (many A) < bedsFor A (dirL A (drD A)) key
        · rw [if_pos c4]
          refine ⟨fun c e => ?_, fun A' r e => by cases e⟩
          cases e
          rw [f_X6_doPut_51]
          by_cases c5 : bedsFor A (dirL A (drD A)) key = -1000
          · rw [if_pos c5, f_X6_doPut_67, MH_ck, gB1_s, q_refuse hm, gB2_s]
          · rw [if_neg c5, MH_ck, gB1_s, q_many (MR_0 h) hF, gB2_s, if_neg (Int32.not_le.mpr (c4.resolve_left c5)), f_X6_doPut_67, MH_ck, gB1_s, q_refuse hm, gB2_s]
        · rw [if_neg c4]
          have c5 := not_or.mp c4
          refine ⟨(fun c e => by cases e), fun A' r e => ?_⟩
          cases e
          exact ⟨WF_put hw c3 c5.1 c5.2, q_put51 h hw hm hF c3 c5.1 c5.2⟩
end Q
