/-! the reference: commands carried out -/
theorem wpr_pV (H : mV) (R P R' P' : mR) (a c : Int32) (N : mR) : wp (wrw (pV (wp (wrw H R) P) a c N) R') P' = pV (wp (wrw H R') P') a c N := by simp only [pV, wat, wcm, wnu, wp, wrw]
theorem vp_pV (V : mV) (a c : Int32) (N : mR) : vp (pV V a c N) = vp V := by simp only [pV, wat, wcm, wnu, vp]
theorem vco_pV (V : mV) (a c : Int32) (N : mR) : vco (pV V a c N) = vco V := by simp only [pV, wat, wcm, wnu, vco]
theorem wco_pV (V : mV) (a c : Int32) (N : mR) (x : Int32) : wco (pV V a c N) x = pV (wco V x) a c N := by simp only [pV, wat, wcm, wnu, wco]
theorem TX_w {H : mV} {tx : List Int32} (h : TX H tx) (R P : mR) : TX (wp (wrw H R) P) tx := by
  have h1 : vln (wp (wrw H R) P) = vln H := by simp only [wp, wrw, vln]
  have h2 : vtx (wp (wrw H R) P) = vtx H := by simp only [wp, wrw, vtx]
  unfold TX
  rw [h1, h2]
  exact h
theorem TX_wco {H : mV} {tx : List Int32} (h : TX H tx) (x : Int32) : TX (wco H x) tx := by
  have h1 : vln (wco H x) = vln H := by simp only [wco, vln]
  have h2 : vtx (wco H x) = vtx H := by simp only [wco, vtx]
  unfold TX
  rw [h1, h2]
  exact h
theorem spCmd_nz {A : aG} {q : aC} {c : Int32} (h : spCmd A q = .inr c) : c ≠ 0 := by
  unfold spCmd at h
  split at h
  · unfold spBegin at h; split at h
    · cases h; decide
    · cases h
  · unfold spPut at h
    simp only at h
    split at h
    · split at h
      · split at h
        · cases h; decide
        · cases h
      · cases h; decide
    · cases h; decide
  · unfold spRem at h
    split at h
    · split at h
      · split at h
        · cases h; decide
        · cases h
      · cases h; decide
    · cases h; decide
  · unfold spCommit at h
    split at h
    · split at h
      · cases h
      · cases h; decide
    · cases h; decide
  · unfold spAbort at h
    split at h
    · cases h
    · cases h; decide
  · unfold spOpen at h
    split at h
    · cases h
    · cases h; decide
  · unfold spClose at h
    split at h
    · split at h
      · cases h
      · cases h; decide
    · cases h; decide
section Q
variable {κ : gK} {F : Nat} {m : Nat} {V : mV} {σ : gS}
theorem q_does {n : Nat} {A : aG} (h : MR (vp V) A) (hw : WF n A) (hm : κ.1 ≤ m) (hF : 40 ≤ F) (hn : n < 1000000) {q : aC} (h1 : 1 ≤ q.1) (h7 : q.1 ≤ 7) (hc : vcm V = Int32.ofNat q.1) (ha : 1 ≤ nNum q.1 → vnu V 0 = Int32.ofNat q.2.1) (hb : nNum q.1 = 2 → vnu V 1 = Int32.ofNat q.2.2) :
    (∀ c, spCmd A q = .inr c → f_X6_does κ F (some m) (MH m V σ) = some (0, MH m (wco V c) σ)) ∧
    (∀ A' r, spCmd A q = .inl (A', r) → WF (n + 1) A' ∧ ∃ R P', f_X6_does κ F (some m) (MH m V σ) = some (r, MH m (wp (wrw V R) P') σ) ∧ MR P' A') := by
  obtain ⟨k, n0, n1⟩ := q
  simp only at h1 h7 hc ha hb
  have g0 : ∀ x, vnu V 0 = x → gaI (MH m V σ) (some (m + 6)) 0 (0 : Int32) = some x := fun x hx => by rw [← hx]; exact MH_gvnu (k := 0) rfl (by omega)
  have g1 : ∀ x, vnu V 1 = x → gaI (MH m V σ) (some (m + 6)) 0 (1 : Int32) = some x := fun x hx => by rw [← hx]; exact MH_gvnu (k := 1) rfl (by omega)
  rw [f_X6_does, f_X6_does_0, MH_vcm, gB1_s, hc]
  match k, h1, h7, ha, hb with
  | 1, _, _, ha, hb =>
    obtain ⟨b1, b2⟩ := q_doBegin (κ := κ) (F := F) (m := m) (V := V) (σ := σ) h hm
    show (∀ c, spBegin A = .inr c → _) ∧ (∀ A' r, spBegin A = .inl (A', r) → _)
    rw [if_pos (by decide), MH_ck, gB1_s]
    unfold spBegin
    cases hd : isDr A with
    | true =>
      rw [if_pos rfl, b1 hd, gB2_s]
      exact ⟨fun c e => by cases e; rfl, fun A' r e => by cases e⟩
    | false =>
      rw [if_neg (by decide)]
      refine ⟨(fun c e => by cases e), fun A' r e => ?_⟩
      cases e
      obtain ⟨P', p1, p2⟩ := b2 hd
      rw [p1, gB2_s]
      exact ⟨WF_le (WF_begin hw hd) (Nat.le_succ _), vrw V, P', rfl, p2⟩
  | 2, _, _, ha, hb =>
    obtain ⟨b1, b2⟩ := q_doPut (κ := κ) (F := F) (m := m) (V := V) (σ := σ) h hw hm hF (Int32.ofNat n0) (Int32.ofNat n1)
    show (∀ c, spPut A (Int32.ofNat n0) (Int32.ofNat n1) = .inr c → _) ∧ (∀ A' r, spPut A (Int32.ofNat n0) (Int32.ofNat n1) = .inl (A', r) → _)
    rw [if_neg (by decide), if_pos (by decide), MH_rvnu, gB1_s, g0 _ (ha (by decide)), gB1_s, gB1_s, g1 _ (hb (by decide)), gB1_s, MH_ck, gB1_s]
    refine ⟨fun c e => by rw [b1 c e, gB2_s], fun A' r e => ?_⟩
    obtain ⟨c1, R, P', c2, c3⟩ := b2 A' r e
    rw [c2, gB2_s]
    exact ⟨WF_le c1 (Nat.le_succ _), R, P', rfl, c3⟩
  | 3, _, _, ha, hb =>
    obtain ⟨b1, b2⟩ := q_doRemove (κ := κ) (F := F) (m := m) (V := V) (σ := σ) h hw hm hF (Int32.ofNat n0)
    show (∀ c, spRem A (Int32.ofNat n0) = .inr c → _) ∧ (∀ A' r, spRem A (Int32.ofNat n0) = .inl (A', r) → _)
    rw [if_neg (by decide), if_neg (by decide), if_pos (by decide), MH_rvnu, gB1_s, g0 _ (ha (by decide)), gB1_s, MH_ck, gB1_s]
    refine ⟨fun c e => by rw [b1 c e, gB2_s], fun A' r e => ?_⟩
    obtain ⟨c1, P', c2, c3⟩ := b2 A' r e
    rw [c2, gB2_s]
    exact ⟨WF_le c1 (Nat.le_succ _), vrw V, P', rfl, c3⟩
  | 4, _, _, ha, hb =>
    obtain ⟨b1, b2⟩ := q_doCommit (κ := κ) (F := F) (m := m) (V := V) (σ := σ) h hw hm hF hn (Int32.ofNat n0)
    show (∀ c, spCommit A (Int32.ofNat n0) = .inr c → _) ∧ (∀ A' r, spCommit A (Int32.ofNat n0) = .inl (A', r) → _)
    rw [if_neg (by decide), if_neg (by decide), if_neg (by decide), if_pos (by decide), MH_rvnu, gB1_s, g0 _ (ha (by decide)), gB1_s, MH_ck, gB1_s]
    refine ⟨fun c e => by rw [b1 c e, gB2_s], fun A' r e => ?_⟩
    obtain ⟨c1, P', c2, c3⟩ := b2 A' r e
    rw [c2, gB2_s]
    exact ⟨c1, vrw V, P', rfl, c3⟩
  | 5, _, _, ha, hb =>
    obtain ⟨b1, b2⟩ := q_doAbort (κ := κ) (F := F) (m := m) (V := V) (σ := σ) h hm hF
    show (∀ c, spAbort A = .inr c → _) ∧ (∀ A' r, spAbort A = .inl (A', r) → _)
    rw [if_neg (by decide), if_neg (by decide), if_neg (by decide), if_neg (by decide), if_pos (by decide), MH_ck, gB1_s]
    unfold spAbort
    cases hd : isDr A with
    | false =>
      rw [if_neg (by decide), b1 hd, gB2_s]
      exact ⟨fun c e => by cases e; rfl, fun A' r e => by cases e⟩
    | true =>
      rw [if_pos rfl]
      refine ⟨(fun c e => by cases e), fun A' r e => ?_⟩
      cases e
      obtain ⟨P', p1, p2⟩ := b2 hd
      rw [p1, gB2_s]
      exact ⟨WF_le (WF_drop1 hw.1) (Nat.le_succ _), vrw V, P', rfl, p2⟩
  | 6, _, _, ha, hb =>
    obtain ⟨b1, b2⟩ := q_doOpen (κ := κ) (F := F) (m := m) (V := V) (σ := σ) h hm hF hw.1.1
    have hle := fcl_le A 4 0
    show (∀ c, spOpen A = .inr c → _) ∧ (∀ A' r, spOpen A = .inl (A', r) → _)
    rw [if_neg (by decide), if_neg (by decide), if_neg (by decide), if_neg (by decide), if_neg (by decide), if_pos (by decide), MH_ck, gB1_s]
    unfold spOpen
    by_cases hd : fcl A 0 4 < 4
    · rw [if_pos hd]
      refine ⟨(fun c e => by cases e), fun A' r e => ?_⟩
      cases e
      obtain ⟨P', p1, p2⟩ := b2 hd
      rw [p1, gB2_s]
      exact ⟨WF_le (WF_open hw _) (Nat.le_succ _), vrw V, P', rfl, p2⟩
    · rw [if_neg hd, b1 (by omega), gB2_s]
      exact ⟨fun c e => by cases e; rfl, fun A' r e => by cases e⟩
  | 7, _, _, ha, hb =>
    obtain ⟨b1, b2⟩ := q_doClose (κ := κ) (F := F) (m := m) (V := V) (σ := σ) h hw hm hF (Int32.ofNat n0)
    show (∀ c, spClose A (Int32.ofNat n0) = .inr c → _) ∧ (∀ A' r, spClose A (Int32.ofNat n0) = .inl (A', r) → _)
    rw [if_neg (by decide), if_neg (by decide), if_neg (by decide), if_neg (by decide), if_neg (by decide), if_neg (by decide), MH_rvnu, gB1_s, g0 _ (ha (by decide)), gB1_s, MH_ck, gB1_s]
    refine ⟨fun c e => by rw [b1 c e, gB2_s], fun A' r e => ?_⟩
    obtain ⟨c1, P', c2, c3⟩ := b2 A' r e
    rw [c2, gB2_s]
    exact ⟨WF_le c1 (Nat.le_succ _), vrw V, P', rfl, c3⟩
theorem prs_len {tx : List Int32} : ∀ {f i : Nat} {cs : List aC}, i ≤ tx.length → prs tx f i = .inr cs → cs.length ≤ tx.length - i
  | 0, i, cs, _, h => by cases h
  | f + 1, i, cs, hi, h => by
    rw [prs] at h
    split at h
    · cases h; exact Nat.zero_le _
    · split at h
      · rename_i hok
        obtain ⟨h1, h2⟩ := rCmd_le hi
        have h2 := h2 hok
        have h3 := skT_ge (a := 32) (b := 32) h1
        split at h
        · cases h
        · rename_i cs' hp
          cases h
          have := prs_len (f := f) h3.2 hp
          rw [List.length_cons]
          omega
      · cases h
theorem exe_wf : ∀ {cs : List aC} {A : aG} {n : Nat}, (∀ (A : aG) (n : Nat) (c : aC) (A' : aG) (r : Int32), WF n A → n < 1000000 → spCmd A c = .inl (A', r) → WF (n + 1) A') → WF n A → n + cs.length < 1000000 → WF (n + cs.length) (exe cs A).1
  | [], A, n, _, h, _ => h
  | c :: cs, A, n, hs, h, hn => by
    rw [exe]
    rw [List.length_cons] at hn ⊢
    cases hx : spCmd A c with
    | inr e => exact WF_le h (by omega)
    | inl q =>
      have := exe_wf (cs := cs) hs (hs A n c q.1 q.2 h (by omega) (by rw [hx])) (by omega)
      rw [show n + (cs.length + 1) = n + 1 + cs.length by omega]
      exact this
/-- what the second reading keeps -/
def keepV (H W : mV) : Prop := vas W = vas H ∧ vsv W = vsv H ∧ vst W = vst H ∧ vln W = vln H ∧ vtx W = vtx H
theorem keep_pV (H : mV) (R P : mR) (a c : Int32) (N : mR) : keepV H (pV (wp (wrw H R) P) a c N) := by
  unfold keepV
  simp only [pV, wat, wcm, wnu, wp, wrw, vas, vsv, vst, vln, vtx]
  exact ⟨trivial, trivial, trivial, trivial, trivial⟩
theorem keep_pVc (H : mV) (R P : mR) (x a c : Int32) (N : mR) : keepV H (pV (wco (wp (wrw H R) P) x) a c N) := by
  unfold keepV
  simp only [pV, wat, wcm, wnu, wco, wp, wrw, vas, vsv, vst, vln, vtx]
  exact ⟨trivial, trivial, trivial, trivial, trivial⟩
theorem q_run62 {H : mV} {tx : List Int32} (ht : TX H tx) (hco : vco H = 0) (hm : κ.1 ≤ m) (hF : 200 ≤ F) : ∀ (f fuel i n k : Nat) (A : aG) (cs : List aC) (R P N : mR) (c : Int32), prs tx f i = .inr cs → i ≤ tx.length → f ≤ fuel → MR P A → WF n A → n + cs.length < 1000000 →
    ∃ W, f_X6_runCommands_62 κ F fuel (some m) (Int32.ofNat k) (MH m (pV (wp (wrw H R) P) (Int32.ofNat i) c N) σ) = f_X6_runCommands_116 κ F (some m) (Int32.ofNat (k + (exe cs A).2)) (MH m W σ) ∧ MR (vp W) (exe cs A).1 ∧ WF (n + cs.length) (exe cs A).1 ∧ keepV H W
  | 0, fuel, i, n, k, A, cs, R, P, N, c, hp, _, _, _, _, _ => by cases hp
  | f + 1, fuel, i, n, k, A, cs, R, P, N, c, hp, hi, hf, hM, hw, hn => by
    obtain ⟨fu, rfl⟩ : ∃ fu, fuel = fu + 1 := ⟨fuel - 1, by omega⟩
    have h150 := ht.2.2.1
    have hT := TX_w ht R P
    have eln : vln (pV (wp (wrw H R) P) (Int32.ofNat i) c N) = Int32.ofNat tx.length := by rw [vln_pV]; exact hT.1
    have ec0 : vco (wp (wrw H R) P) = 0 := by
      have : vco (wp (wrw H R) P) = vco H := by simp only [wp, wrw, vco]
      rw [this, hco]
    rw [prs] at hp
    rw [f_X6_runCommands_62, f_X6_runCommands_62b, MH_vat, gB1_s, vat_pV, MH_vln, gB1_s, eln]
    by_cases hend : tx.length ≤ i
    · rw [if_pos hend] at hp
      cases hp
      rw [if_pos ((i3_le (by omega) (by omega)).mpr hend)]
      refine ⟨_, rfl, ?_, hw, keep_pV H R P _ _ _⟩
      rw [vp_pV]
      exact hM
    · rw [if_neg hend] at hp
      rw [if_neg (fun e => hend ((i3_le (by omega) (by omega)).mp e)), gB1_eq (show gfI (MH m (pV (wp (wrw H R) P) (Int32.ofNat i) c N) σ) (some m) 9 7 = some 0 from by rw [MH_vco, vco_pV, ec0]), if_pos rfl, MH_ck, gB1_s]
      obtain ⟨c', N', r1, r2⟩ := q_readCommand (κ := κ) (F := F) (m := m) (V := wp (wrw H R) P) (σ := σ) (c := c) (N := N) hT hm hF hi
      obtain ⟨l1, l2⟩ := rCmd_le hi
      rw [r1, gB2_s, MH_ck, gB1_s]
      cases hok : (rCmd tx i).1 with
      | false => rw [hok] at hp; cases hp
      | true =>
        rw [hok, if_pos rfl] at hp
        obtain ⟨s1, s2, s3, s4, s5⟩ := r2 hok
        have l2 := l2 hok
        have l3 := skT_ge (a := 32) (b := 32) l1
        cases hp2 : prs tx f (skT tx 32 32 (rCmd tx i).2.1) with
        | inl p => rw [hp2] at hp; cases hp
        | inr cs' =>
          rw [hp2] at hp
          cases hp
          rw [List.length_cons] at hn ⊢
          have hM2 : MR (vp (pV (wp (wrw H R) P) (Int32.ofNat (rCmd tx i).2.1) c' N')) A := by rw [vp_pV]; exact hM
          obtain ⟨d1, d2⟩ := q_does (κ := κ) (F := F) (m := m) (V := pV (wp (wrw H R) P) (Int32.ofNat (rCmd tx i).2.1) c' N') (σ := σ) (q := (rCmd tx i).2.2) hM2 hw hm (by omega) (by omega) s2 s3 (by rw [vcm_pV]; exact s1) (fun e => by rw [vnu_pV]; exact s4 e) (fun e => by rw [vnu_pV]; exact s5 e)
          rw [exe]
          cases hx : spCmd A (rCmd tx i).2.2 with
          | inr e =>
            have hne := spCmd_nz hx
            rw [d1 e hx, gB2_s, wco_pV, if_pos rfl, if_neg (by decide), gB1_eq (show gfI (MH m (pV (wco (wp (wrw H R) P) e) (Int32.ofNat (rCmd tx i).2.1) c' N') σ) (some m) 9 7 = some e from by rw [MH_vco, vco_pV]; rfl), if_neg hne, f_X6_runCommands_106, f_X6_runCommands_107, MH_ck, gB1_s, q_spaces (TX_wco hT e) hm hF l1, gB2_s, Int32.add_zero]
            have hf1 : 1 ≤ f := by
              cases f with
              | zero => rw [prs] at hp2; cases hp2
              | succ f => omega
            obtain ⟨fv, rfl⟩ : ∃ fv, fu = fv + 1 := ⟨fu - 1, by omega⟩
            have eln2 : vln (pV (wco (wp (wrw H R) P) e) (Int32.ofNat (skT tx 32 32 (rCmd tx i).2.1)) c' N') = Int32.ofNat tx.length := by rw [vln_pV]; exact (TX_wco hT e).1
            have eco2 : gfI (MH m (pV (wco (wp (wrw H R) P) e) (Int32.ofNat (skT tx 32 32 (rCmd tx i).2.1)) c' N') σ) (some m) 9 7 = some e := by rw [MH_vco, vco_pV]; rfl
            refine ⟨pV (wco (wp (wrw H R) P) e) (Int32.ofNat (skT tx 32 32 (rCmd tx i).2.1)) c' N', ?_, ?_, WF_le hw (by omega), keep_pVc H R P _ _ _ _⟩
            · rw [f_X6_runCommands_62, f_X6_runCommands_62b, MH_vat, gB1_s, vat_pV, MH_vln, gB1_s, eln2]
              show _ = f_X6_runCommands_116 κ F (some m) (Int32.ofNat (k + 0)) _
              split
              · rfl
              · rw [eco2, gB1_s, if_neg hne]
                rfl
            · rw [vp_pV]
              exact hM
          | inl q =>
            obtain ⟨A', r⟩ := q
            obtain ⟨w1, R', P', e1, e2⟩ := d2 A' r hx
            rw [e1, gB2_s, wpr_pV, if_pos rfl, if_neg (by decide)]
            have ec1 : gfI (MH m (pV (wp (wrw H R') P') (Int32.ofNat (rCmd tx i).2.1) c' N') σ) (some m) 9 7 = some 0 := by
              rw [MH_vco, vco_pV]
              have : vco (wp (wrw H R') P') = vco H := by simp only [wp, wrw, vco]
              rw [this, hco]
            rw [ec1, gB1_s, if_pos rfl, f_X6_runCommands_107, MH_ck, gB1_s, q_spaces (TX_w ht R' P') hm hF l1, gB2_s, i3_s]
            obtain ⟨W, v1, v2, v3, v4⟩ := q_run62 ht hco hm hF f fu (skT tx 32 32 (rCmd tx i).2.1) (n + 1) (k + 1) A' cs' R' P' N' c' hp2 l3.2 (by omega) e2 w1 (by omega)
            refine ⟨W, ?_, v2, by rw [show n + (cs'.length + 1) = n + 1 + cs'.length by omega]; exact v3, v4⟩
            refine v1.trans ?_
            rw [show k + 1 + (exe cs' A').2 = k + ((exe cs' A').2 + 1) by omega]
theorem q_run14 {tx : List Int32} (ht : TX V tx) (hm : κ.1 ≤ m) (hF : 200 ≤ F) : ∀ (f fuel i : Nat) (N : mR) (c : Int32), i ≤ tx.length → tx.length - i < f → f ≤ fuel →
    ∃ j c' N', j ≤ tx.length ∧ match prs tx f i with
      | .inl p => f_X6_runCommands_14 κ F fuel (some m) (MH m (pV V (Int32.ofNat i) c N) σ) = some (-10 - Int32.ofNat p, MH m (pV V (Int32.ofNat p) c' N') σ)
      | .inr _ => f_X6_runCommands_14 κ F fuel (some m) (MH m (pV V (Int32.ofNat i) c N) σ) = gB2 (f_X6_hold κ F (some m) (MH m (pV V (Int32.ofNat j) c' N') σ)) (fun v4 s3 => gB1 (gpf κ s3 (some m) 9 9 (.int (0 : Int32))) fun s6 => gB1 (gck s6 (some m) 9) fun _ => gB2 (f_X6_spaces κ F (some m) s6) fun v8 s7 => f_X6_runCommands_62 κ F F (some m) (0 : Int32) s7)
  | 0, fuel, i, N, c, hi, h, _ => absurd h (Nat.not_lt_zero _)
  | f + 1, fuel, i, N, c, hi, h, hf => by
    obtain ⟨fu, rfl⟩ : ∃ fu, fuel = fu + 1 := ⟨fuel - 1, by omega⟩
    have h150 := ht.2.2.1
    have eln : vln (pV V (Int32.ofNat i) c N) = Int32.ofNat tx.length := by rw [vln_pV]; exact ht.1
    rw [prs, f_X6_runCommands_14, f_X6_runCommands_14b, MH_vat, gB1_s, vat_pV, MH_vln, gB1_s, eln]
    by_cases hend : tx.length ≤ i
    · rw [if_pos hend, if_pos ((i3_le (by omega) (by omega)).mpr hend), MH_ck, gB1_s]
      exact ⟨i, c, N, hi, rfl⟩
    · rw [if_neg hend, if_neg (fun e => hend ((i3_le (by omega) (by omega)).mp e)), MH_ck, gB1_s]
      obtain ⟨c', N', r1, r2⟩ := q_readCommand (κ := κ) (F := F) (m := m) (V := V) (σ := σ) (c := c) (N := N) ht hm hF hi
      obtain ⟨l1, l2⟩ := rCmd_le hi
      rw [r1, gB2_s]
      cases hok : (rCmd tx i).1 with
      | false =>
        simp only [Bool.false_eq_true, if_false, if_true, eq_self, MH_vat, gB1_s, vat_pV]
        exact ⟨i, c', N', hi, rfl⟩
      | true =>
        have l2 := l2 hok
        have l3 := skT_ge (a := 32) (b := 32) l1
        simp only [if_true, i10, if_false, MH_ck, gB1_s, q_spaces ht hm hF l1, gB2_s]
        obtain ⟨j, c2, N2, j1, j2⟩ := q_run14 ht hm hF f fu (skT tx 32 32 (rCmd tx i).2.1) N' c' l3.2 (by omega) (by omega)
        refine ⟨j, c2, N2, j1, ?_⟩
        cases hp : prs tx f (skT tx 32 32 (rCmd tx i).2.1) with
        | inl p => rw [hp] at j2; exact j2
        | inr cs => rw [hp] at j2; exact j2
theorem pV_self (V : mV) : pV V (vat V) (vcm V) (vnu V) = V := by simp only [pV, wat, wcm, wnu, vat, vcm, vnu]
theorem hold_pV (V : mV) (a c : Int32) (N : mR) : was (wco (pV V a c N) 0) (cpy (vp (pV V a c N)) (vas (pV V a c N)) 0 0 470) = pV (holdV V) a c N := by simp only [pV, wat, wcm, wnu, was, wco, vp, vas, holdV]
theorem wpr_self (V : mV) : wp (wrw V (vrw V)) (vp V) = V := by simp only [wp, wrw, vrw, vp]
theorem MM_pV {V : mV} {S : aS} (h : MM V S) (a c : Int32) (N : mR) : MM (pV V a c N) S := by
  have e1 : vsv (pV V a c N) = vsv V := by simp only [pV, wat, wcm, wnu, vsv]
  have e2 : vst (pV V a c N) = vst V := by simp only [pV, wat, wcm, wnu, vst]
  unfold MM
  rw [vp_pV, e1, e2, vln_pV, vtx_pV]
  exact h
theorem q_runCommands {n : Nat} {S : aS} (h : MM V S) (hw : WS n S) (hm : κ.1 ≤ m) (hF : 1500 ≤ F) (hn : n < 900000) :
    ∃ V', f_X6_runCommands κ F (some m) (MH m V σ) = some ((spRun S).1, MH m V' σ) ∧ MM V' (spRun S).2 ∧ WS (n + 151) (spRun S).2 := by
  have hT0 := TX_of h hw
  have h150 := hT0.2.2.1
  have hM0 : MM (wth V 0) S := h
  have hT : TX (wth V 0) S.2.2 := TX_of hM0 hw
  have e0 : wat (wth V 0) 0 = pV (wth V 0) (Int32.ofNat 0) (vcm (wth V 0)) (vnu (wth V 0)) := by
    have := pV_self (wth V 0)
    rw [← wat_pV (wth V 0) (vat (wth V 0)) (Int32.ofNat 0), this]
    rfl
  have l3 := skT_ge (tx := S.2.2) (a := 32) (b := 32) (Nat.zero_le _)
  rw [f_X6_runCommands, f_X6_runCommands_0, MH_wth hm, gB1_s, MH_wat hm, gB1_s, MH_ck, gB1_s, e0, q_spaces hT hm (by omega) (Nat.zero_le _), gB2_s]
  generalize hV0 : wth V 0 = V0 at hM0 hT ⊢
  obtain ⟨j, c', N', j1, j2⟩ := q_run14 (κ := κ) (F := F) (m := m) (V := V0) (σ := σ) hT hm (by omega) (S.2.2.length + 1) F (skT S.2.2 32 32 0) (vnu V0) (vcm V0) l3.2 (by omega) (by omega)
  unfold spRun
  cases hp : prs S.2.2 (S.2.2.length + 1) (skT S.2.2 32 32 0) with
  | inl p =>
    rw [hp] at j2
    refine ⟨_, j2, MM_pV hM0 _ _ _, WS_le hw (by omega)⟩
  | inr cs =>
    rw [hp] at j2
    have hcl := prs_len l3.2 hp
    have hTh : TX (holdV V0) S.2.2 := by
      have h1 : vln (holdV V0) = vln V0 := by simp only [holdV, was, wco, vln]
      have h2 : vtx (holdV V0) = vtx V0 := by simp only [holdV, was, wco, vtx]
      unfold TX
      rw [h1, h2]
      exact hT
    have hco : vco (holdV V0) = 0 := by simp only [holdV, was, wco, vco]
    have hvp : vp (holdV V0) = vp V0 := by simp only [holdV, was, wco, vp]
    obtain ⟨W, w1, w2, w3, w4⟩ := q_run62 (κ := κ) (F := F) (m := m) (σ := σ) (H := holdV V0) hTh hco hm (by omega) (S.2.2.length + 1) F (skT S.2.2 32 32 0) n 0 S.1 cs (vrw (holdV V0)) (vp (holdV V0)) N' c' hp l3.2 (by omega) (by rw [hvp]; exact hM0.1) hw.1 (by omega)
    rw [wpr_self] at w1
    obtain ⟨k1, k2, k3, k4, k5⟩ := w4
    have hsv : vsv (holdV V0) = vsv V0 := by simp only [holdV, was, wco, vsv]
    have hst : vst (holdV V0) = vst V0 := by simp only [holdV, was, wco, vst]
    have hln : vln (holdV V0) = vln V0 := by simp only [holdV, was, wco, vln]
    have htx : vtx (holdV V0) = vtx V0 := by simp only [holdV, was, wco, vtx]
    have has : vas (holdV V0) = cpy (vp V0) (vas V0) 0 0 470 := by simp only [holdV, was, wco, vas]
    obtain ⟨V', v1, v2, v3⟩ := q_endsF (κ := κ) (F := F) (m := m) (V := V0) (σ := σ) (W := wco W 0) (r := Int32.ofNat (0 + (exe cs S.1).2)) (A' := (exe cs S.1).1) hM0 hw.2.1 hm hF rfl
      (by have : vas (wco W 0) = vas W := by simp only [wco, vas]
          rw [this, k1, has])
      (by have : vsv (wco W 0) = vsv W := by simp only [wco, vsv]
          rw [this, k2, hsv])
      (by have : vst (wco W 0) = vst W := by simp only [wco, vst]
          rw [this, k3, hst])
      (by have : vln (wco W 0) = vln W := by simp only [wco, vln]
          rw [this, k4, hln])
      (by have : vtx (wco W 0) = vtx W := by simp only [wco, vtx]
          rw [this, k5, htx])
      (by have : vp (wco W 0) = vp W := by simp only [wco, vp]
          rw [this]; exact w2)
    refine ⟨V', ?_, v3, WF_le w3 (by omega), pushL_le hw.2.1, fun B hB => ?_, hw.2.2.2⟩
    · refine j2.trans ?_
      rw [q_hold hm (by omega), gB2_s, hold_pV, MH_wat hm, gB1_s, wat_pV, MH_ck, gB1_s]
      show gB2 (f_X6_spaces κ F (some m) (MH m (pV (holdV V0) (Int32.ofNat 0) c' N') σ)) _ = _
      rw [q_spaces hTh hm (by omega) (Nat.zero_le _), gB2_s]
      refine w1.trans ?_
      rw [f_X6_runCommands_116, MH_wco hm, gB1_s, MH_ck, gB1_s, v1, gB2_s, Nat.zero_add]
    · rcases pushL_mem hB with hB | hB
      · exact WF_le (hw.2.2.1 B hB) (by omega)
      · rw [hB]; exact WF_le hw.1 (by omega)
end Q
