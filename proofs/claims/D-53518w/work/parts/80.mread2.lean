/-! the reference: its calls that read, type, undo -/
def spGet (A : aG) (key : Int32) : Int32 × Int32 := if inR key 0 99 then (0, valBy A (nowD A) key) else (1, 0)
def spDrafted (A : aG) (key : Int32) : Int32 × Int32 := if inR key 0 99 then (if isDr A then (0, valBy A (drD A) key) else (2, 0)) else (1, 0)
def spRead (A : aG) (r key : Int32) : Int32 × Int32 := if inR r 0 3 then (if inR key 0 99 then (match aRd A r.toNatClampNeg with | none => (3, 0) | some q => (0, valBy A q.2 key)) else (2, 0)) else (1, 0)
def spEntry (A : aG) (k w : Int32) : Int32 × Int32 := if inR k 0 (Int32.ofNat (entsBy A (dirL A (nowD A))) - 1) then (if inR w 0 3 then (0, entry A (dirL A (nowD A)) k.toNatClampNeg w.toNatClampNeg) else (2, 0)) else (1, 0)
def spRoot (A : aG) (r w : Int32) : Int32 × Int32 := if inR r 0 1 then (if inR w 0 3 then (0, vRoot A r.toNatClampNeg w.toNatClampNeg) else (2, 0)) else (1, 0)
def spReader (A : aG) (r w : Int32) : Int32 × Int32 := if inR r 0 3 then (if inR w 0 2 then (0, vReader A r.toNatClampNeg w.toNatClampNeg) else (2, 0)) else (1, 0)
def spBed (A : aG) (b w : Int32) : Int32 × Int32 := if inR b 0 31 then (if inR w 0 5 then (0, vBed A b.toNatClampNeg w.toNatClampNeg) else (2, 0)) else (1, 0)
def vTellS (S : aS) (w : Nat) : Int32 := if w = 14 then Int32.ofNat S.2.2.length else vTell S.1 w
def spWhole (S : aS) (w : Int32) : Int32 × Int32 := if inR w 0 14 then (0, vTellS S w.toNatClampNeg) else (1, 0)
def vNext (A : aG) : Int32 := match next A with
  | none => -1000
  | some b => Int32.ofNat b
def spBedsFor (A : aG) (key : Int32) : Int32 × Int32 := if inR key 0 99 then (if isDr A then (0, bedsFor A (dirL A (drD A)) key) else (2, 0)) else (1, 0)
def vReason (A : aG) (key : Int32) : Int32 := if bedsFor A (dirL A (drD A)) key = -1000 then 1 else if bedsFor A (dirL A (drD A)) key ≤ Int32.ofNat (many A) then 0 else 2
def spReason (A : aG) (key : Int32) : Int32 × Int32 := if inR key 0 99 then (if isDr A then (0, vReason A key) else (2, 0)) else (1, 0)
def spNeeded (A : aG) (r : Int32) : Int32 × Int32 := if inR r 0 3 then (if (aRd A r.toNatClampNeg).isSome then (0, need A r) else (2, 0)) else (1, 0)
def unl (A : aG) (d : Nat) (n : Nat) : Nat := cnt (fun k => !(valBy A (nowD A) (Int32.ofNat k) == valBy A d (Int32.ofNat k))) n
def spChanged (A : aG) (r : Int32) : Int32 × Int32 := if inR r 0 3 then (match aRd A r.toNatClampNeg with | none => (2, 0) | some q => (0, Int32.ofNat (unl A q.2 100))) else (1, 0)
def spType (S : aS) (v : Int32) : Int32 × Int32 × aS := if inR v 0 127 then (if S.2.2.length = 150 then (2, 0, S) else (0, Int32.ofNat (S.2.2.length + 1), (S.1, S.2.1, S.2.2 ++ [v]))) else (1, 0, S)
def spUndo (S : aS) : Int32 × Int32 × aS := if S.2.1 = [] then (1, 0, S) else (0, Int32.ofNat (S.2.1.length - 1), (S.2.1.getD (S.2.1.length - 1) A00, S.2.1.dropLast, S.2.2))
theorem MM_wth {V : mV} {S : aS} (h : MM V S) (c : Int32) : MM (wth V c) S := h
section Q
variable {κ : gK} {F : Nat} {m : Nat} {V : mV} {σ : gS}
theorem i12z : ((2 : Int32) = 0) = False := eq_false (by decide)
theorem i13z : ((3 : Int32) = 0) = False := eq_false (by decide)
theorem q_isKey (v : Int32) (s : gS) : f_X6_isKey κ F v s = some (if inR v 0 99 then 1 else 0, s) := by
  rw [f_X6_isKey, f_X6_isKey_0, q_in, gB2_s]
  cases inR v 0 99
  · show gB1 (gok .boolean 0) _ = _
    rw [gok_z0, gB1_s]
  · show gB1 (gok .boolean 1) _ = _
    rw [gok_z1, gB1_s]
theorem q_isReader (v : Int32) (s : gS) : f_X6_isReader κ F v s = some (if inR v 0 3 then 1 else 0, s) := by
  rw [f_X6_isReader, f_X6_isReader_0, q_in, gB2_s]
  cases inR v 0 3
  · show gB1 (gok .boolean 0) _ = _
    rw [gok_z0, gB1_s]
  · show gB1 (gok .boolean 1) _ = _
    rw [gok_z1, gB1_s]
theorem q_get {n : Nat} {S : aS} (h : MM V S) (hw : WS n S) (hm : κ.1 ≤ m) (hF : 40 ≤ F) (key : Int32) : f_X6_get κ F (some m) key (MH m V σ) = some ((spGet S.1 key).2, MH m (wth V (spGet S.1 key).1) σ) := by
  unfold spGet
  rw [f_X6_get, f_X6_get_0, MH_wth hm, gB1_s, q_isKey, gB2_s]
  cases inR key 0 99 with
  | false => simp only [Bool.false_eq_true, if_false, if_true, eq_self, MH_ck, gB1_s, q_fails hm, gB2_s, f_X6_get_29]; rfl
  | true =>
    have h0 : MR0 (vp (wth V 0)) S.1 := MR_0 h.1
    simp only [if_true, i10, if_false, MH_ck, gB1_s, q_now h0 hw.1.1.1, gB2_s, q_valueBy h0 hF (WF_now hw.1) key, f_X6_get_29]
theorem vth_wth (V : mV) (c : Int32) : vth (wth V c) = c := rfl
theorem q_drafted {n : Nat} {S : aS} (h : MM V S) (hw : WS n S) (hm : κ.1 ≤ m) (hF : 40 ≤ F) (key : Int32) : f_X6_drafted κ F (some m) key (MH m V σ) = some ((spDrafted S.1 key).2, MH m (wth V (spDrafted S.1 key).1) σ) := by
  have hg : gaI (MH m V σ) (some (m + 1)) 0 (466 : Int32) = some (vp V 466) := MH_gvp (k := 466) rfl (by omega)
  unfold spDrafted
  rw [f_X6_drafted, f_X6_drafted_0, q_isKey, gB2_s]
  cases inR key 0 99 with
  | false => simp only [Bool.false_eq_true, if_false, if_true, eq_self, f_X6_drafted_28, MH_wth hm, gB1_s, MH_vth, vth_wth, i10, f_X6_drafted_51]
  | true =>
    simp only [if_true, i10, if_false, MH_rvp, gB1_s, hg, q_p466 h.1]
    cases hd : isDr S.1 with
    | false => simp only [Bool.false_eq_true, if_false, if_true, eq_self, f_X6_drafted_28, MH_wth hm, gB1_s, MH_vth, vth_wth, i12z, f_X6_drafted_51]
    | true =>
      have h0 : MR (vp (wth V 0)) S.1 := h.1
      simp only [if_true, i10, if_false, eq_self, f_X6_drafted_28, MH_wth hm, gB1_s, MH_vth, vth_wth, MH_ck, q_drafts h0 hw.1.1.1 (drD_lt hw.1), gB2_s, q_valueBy (MR_0 h0) hF (WF_okD hw.1 hd) key, f_X6_drafted_51]
theorem q_rdOpen {A : aG} (h : MR (vp V) A) {k : Nat} (hk : k < 4) : vp V (454 + 3 * k + 0) = (if (aRd A k).isSome then 1 else 0) := by
  have hr := h.2.2.1 k hk
  cases hd : aRd A k with
  | none => rw [hd] at hr; exact hr
  | some q => rw [hd] at hr; exact hr.1
theorem q_read {n : Nat} {S : aS} (h : MM V S) (hw : WS n S) (hm : κ.1 ≤ m) (hF : 40 ≤ F) (r key : Int32) : f_X6_read κ F (some m) r key (MH m V σ) = some ((spRead S.1 r key).2, MH m (wth V (spRead S.1 r key).1) σ) := by
  unfold spRead
  rw [f_X6_read, f_X6_read_0, q_isReader, gB2_s]
  cases c1 : inR r 0 3 with
  | false => simp only [Bool.false_eq_true, if_false, if_true, eq_self, f_X6_read_37, MH_wth hm, gB1_s, MH_vth, vth_wth, i10, f_X6_read_62]
  | true =>
    obtain ⟨k, hk, rfl⟩ := inR_nat (b := 3) (by omega) c1
    simp only [if_true, i10, if_false, q_isKey, gB2_s]
    cases inR key 0 99 with
    | false => simp only [Bool.false_eq_true, if_false, if_true, eq_self, f_X6_read_37, MH_wth hm, gB1_s, MH_vth, vth_wth, i12z, f_X6_read_62]
    | true =>
      simp only [if_true, i10, if_false, MH_ck, gB1_s, q_ofReader0 (show k < 4 by omega), gB2_s, q_rdOpen h.1 (show k < 4 by omega), (i3_ok (k := k) (by omega)).2]
      cases hd : aRd S.1 k with
      | none => simp only [Option.isSome_none, Bool.false_eq_true, if_false, if_true, eq_self, f_X6_read_37, MH_wth hm, gB1_s, MH_vth, vth_wth, i13z, f_X6_read_62]
      | some q =>
        have h0 : MR0 (vp (wth V 0)) S.1 := MR_0 h.1
        have q2 : f_X6_ofReader κ F (some m) (Int32.ofNat k) (2 : Int32) (MH m (wth V 0) σ) = some (Int32.ofNat q.2, MH m (wth V 0) σ) := by
          have := q_ofReader (κ := κ) (F := F) (m := m) (V := wth V 0) (σ := σ) (r := k) (w := 2) (by omega)
          refine this.trans ?_
          have hr := h.1.2.2.1 k (by omega)
          rw [hd] at hr
          show some (vp V (454 + 3 * k + 2), _) = _
          rw [hr.2.2]
        simp only [Option.isSome_some, i10, if_false, if_true, eq_self, f_X6_read_37, MH_wth hm, gB1_s, MH_vth, vth_wth, MH_ck, q2, gB2_s, q_valueBy h0 hF (WF_rdr hw.1 (show k < 4 by omega) hd) key, f_X6_read_62]
theorem ents_pos {A : aG} {D : List Nat} {k : Int32} (hb : entsBy A D < 1000) (h : inR k 0 (Int32.ofNat (entsBy A D) - 1) = true) : ∃ s, s < entsBy A D ∧ k = Int32.ofNat s := by
  cases he : entsBy A D with
  | zero =>
    rw [he] at h
    unfold inR at h
    obtain ⟨h1, h2⟩ := of_decide_eq_true h
    have := Int32.le_trans h1 h2
    exact absurd this (by decide)
  | succ e =>
    rw [he, i3_p] at h
    obtain ⟨s, s1, s2⟩ := inR_nat (by omega) h
    exact ⟨s, by omega, s2⟩
theorem ents_96 {n : Nat} {A : aG} (h : MR (vp V) A) (hwf : WF n A) : entsBy A (dirL A (nowD A)) ≤ 24 := by
  have hD := WF_now hwf
  have h6 := (MR_dir (MR_0 h) hD.1 hD.2.1 hD.2.2.1).2.2.1
  have h24 := ents_le (MR_0 h) (D := dirL A (nowD A)) hD.2.2.2
  omega
theorem q_entry {n : Nat} {S : aS} (h : MM V S) (hw : WS n S) (hm : κ.1 ≤ m) (hF : 40 ≤ F) (k w : Int32) : f_X6_entry κ F (some m) k w (MH m V σ) = some ((spEntry S.1 k w).2, MH m (wth V (spEntry S.1 k w).1) σ) := by
  have h24 := ents_96 h.1 hw.1
  unfold spEntry
  rw [f_X6_entry, f_X6_entry_0, MH_ck, gB1_s, q_now (MR_0 h.1) hw.1.1.1, gB2_s, MH_ck, gB1_s, q_entriesBy (MR_0 h.1) hF (WF_now hw.1), gB2_s, q_in, gB2_s]
  cases c1 : inR k 0 (Int32.ofNat (entsBy S.1 (dirL S.1 (nowD S.1))) - 1) with
  | false => simp only [Bool.false_eq_true, if_false, if_true, eq_self, f_X6_entry_37, MH_wth hm, gB1_s, MH_vth, vth_wth, i10, f_X6_entry_57]
  | true =>
    obtain ⟨s, s1, rfl⟩ := ents_pos (by omega) c1
    simp only [if_true, i10, if_false, q_in, gB2_s]
    cases c2 : inR w 0 3 with
    | false => simp only [Bool.false_eq_true, if_false, if_true, eq_self, f_X6_entry_37, MH_wth hm, gB1_s, MH_vth, vth_wth, i12z, f_X6_entry_57]
    | true =>
      obtain ⟨e, e1, rfl⟩ := inR_nat (b := 3) (by omega) c2
      have h0 : MR (vp (wth V 0)) S.1 := h.1
      simp only [if_true, i10, if_false, eq_self, f_X6_entry_37, MH_wth hm, gB1_s, MH_vth, vth_wth, MH_ck, q_tellEntry h0 hw.1 hF (show e < 4 by omega) s1, gB2_s, f_X6_entry_57, (i3_ok (k := s) (by omega)).2, (i3_ok (k := e) (by omega)).2]
theorem q_root {n : Nat} {S : aS} (h : MM V S) (hw : WS n S) (hm : κ.1 ≤ m) (k w : Int32) : f_X6_root κ F (some m) k w (MH m V σ) = some ((spRoot S.1 k w).2, MH m (wth V (spRoot S.1 k w).1) σ) := by
  unfold spRoot
  rw [f_X6_root, f_X6_root_0, q_in, gB2_s]
  cases c1 : inR k 0 1 with
  | false => simp only [Bool.false_eq_true, if_false, if_true, eq_self, f_X6_root_28, MH_wth hm, gB1_s, MH_vth, vth_wth, i10, f_X6_root_48]
  | true =>
    obtain ⟨s, s1, rfl⟩ := inR_nat (b := 1) (by omega) c1
    simp only [if_true, i10, if_false, q_in, gB2_s]
    cases c2 : inR w 0 3 with
    | false => simp only [Bool.false_eq_true, if_false, if_true, eq_self, f_X6_root_28, MH_wth hm, gB1_s, MH_vth, vth_wth, i12z, f_X6_root_48]
    | true =>
      obtain ⟨e, e1, rfl⟩ := inR_nat (b := 3) (by omega) c2
      have h0 : MR0 (vp (wth V 0)) S.1 := MR_0 h.1
      simp only [if_true, i10, if_false, eq_self, f_X6_root_28, MH_wth hm, gB1_s, MH_vth, vth_wth, MH_ck, q_tellRoot h0 (show s < 2 by omega) (show e < 4 by omega) (hw.1.1.2.1 s (by omega)), gB2_s, f_X6_root_48, (i3_ok (k := s) (by omega)).2, (i3_ok (k := e) (by omega)).2]
theorem q_reader {n : Nat} {S : aS} (h : MM V S) (hw : WS n S) (hm : κ.1 ≤ m) (hF : 40 ≤ F) (k w : Int32) : f_X6_reader κ F (some m) k w (MH m V σ) = some ((spReader S.1 k w).2, MH m (wth V (spReader S.1 k w).1) σ) := by
  unfold spReader
  rw [f_X6_reader, f_X6_reader_0, q_isReader, gB2_s]
  cases c1 : inR k 0 3 with
  | false => simp only [Bool.false_eq_true, if_false, if_true, eq_self, f_X6_reader_26, MH_wth hm, gB1_s, MH_vth, vth_wth, i10, f_X6_reader_46]
  | true =>
    obtain ⟨s, s1, rfl⟩ := inR_nat (b := 3) (by omega) c1
    simp only [if_true, i10, if_false, q_in, gB2_s]
    cases c2 : inR w 0 2 with
    | false => simp only [Bool.false_eq_true, if_false, if_true, eq_self, f_X6_reader_26, MH_wth hm, gB1_s, MH_vth, vth_wth, i12z, f_X6_reader_46]
    | true =>
      obtain ⟨e, e1, rfl⟩ := inR_nat (b := 2) (by omega) c2
      have h0 : MR0 (vp (wth V 0)) S.1 := MR_0 h.1
      simp only [if_true, i10, if_false, eq_self, f_X6_reader_26, MH_wth hm, gB1_s, MH_vth, vth_wth, MH_ck, q_tellReader h0 hF (show s < 4 by omega) (show e < 3 by omega) (fun q hq => ⟨_, WF_rdr hw.1 (show s < 4 by omega) hq⟩), gB2_s, f_X6_reader_46, (i3_ok (k := s) (by omega)).2, (i3_ok (k := e) (by omega)).2]
theorem q_bed {n : Nat} {S : aS} (h : MM V S) (hw : WS n S) (hm : κ.1 ≤ m) (hF : 40 ≤ F) (k w : Int32) : f_X6_bed κ F (some m) k w (MH m V σ) = some ((spBed S.1 k w).2, MH m (wth V (spBed S.1 k w).1) σ) := by
  unfold spBed
  rw [f_X6_bed, f_X6_bed_0, q_in, gB2_s]
  cases c1 : inR k 0 31 with
  | false => simp only [Bool.false_eq_true, if_false, if_true, eq_self, f_X6_bed_29, MH_wth hm, gB1_s, MH_vth, vth_wth, i10, f_X6_bed_49]
  | true =>
    obtain ⟨s, s1, rfl⟩ := inR_nat (b := 31) (by omega) c1
    simp only [if_true, i10, if_false, q_in, gB2_s]
    cases c2 : inR w 0 5 with
    | false => simp only [Bool.false_eq_true, if_false, if_true, eq_self, f_X6_bed_29, MH_wth hm, gB1_s, MH_vth, vth_wth, i12z, f_X6_bed_49]
    | true =>
      obtain ⟨e, e1, rfl⟩ := inR_nat (b := 5) (by omega) c2
      have h0 : MR0 (vp (wth V 0)) S.1 := MR_0 h.1
      simp only [if_true, i10, if_false, eq_self, f_X6_bed_29, MH_wth hm, gB1_s, MH_vth, vth_wth, MH_ck, q_tellBed h0 hF (show s < 32 by omega) (show e < 6 by omega), gB2_s, f_X6_bed_49, (i3_ok (k := s) (by omega)).2, (i3_ok (k := e) (by omega)).2]
theorem q_tellS {n : Nat} {S : aS} (h : MM V S) (hw : WS n S) (hF : 40 ≤ F) {w : Nat} (hw15 : w < 15) : f_X6_tell κ F (some m) (Int32.ofNat w) (MH m V σ) = some (vTellS S w, MH m V σ) := by
  rw [q_tell h.1 hw.1 hF hw15, h.2.2.2.1]
  rfl
theorem q_whole {n : Nat} {S : aS} (h : MM V S) (hw : WS n S) (hm : κ.1 ≤ m) (hF : 40 ≤ F) (w : Int32) : f_X6_whole κ F (some m) w (MH m V σ) = some ((spWhole S w).2, MH m (wth V (spWhole S w).1) σ) := by
  unfold spWhole
  rw [f_X6_whole, f_X6_whole_0, MH_wth hm, gB1_s, q_in, gB2_s]
  cases c1 : inR w 0 14 with
  | false => simp only [Bool.false_eq_true, if_false, if_true, eq_self, MH_ck, gB1_s, q_fails hm, gB2_s, f_X6_whole_28]; rfl
  | true =>
    obtain ⟨s, s1, rfl⟩ := inR_nat (b := 14) (by omega) c1
    have h0 : MM (wth V 0) S := h
    simp only [if_true, i10, if_false, MH_ck, gB1_s, q_tellS h0 hw hF (show s < 15 by omega), gB2_s, f_X6_whole_28, (i3_ok (k := s) (by omega)).2]
theorem q_nextBed {S : aS} (h : MM V S) (hm : κ.1 ≤ m) (hF : 40 ≤ F) : f_X6_nextBed κ F (some m) (MH m V σ) = some (vNext S.1, MH m (wth V 0) σ) := by
  have h0 : MR0 (vp (wth V 0)) S.1 := MR_0 h.1
  rw [f_X6_nextBed, f_X6_nextBed_0, MH_wth hm, gB1_s, MH_ck, gB1_s, q_tellNext h0 hF, gB2_s]
  rfl
theorem q_bedsFor {n : Nat} {S : aS} (h : MM V S) (hw : WS n S) (hm : κ.1 ≤ m) (hF : 40 ≤ F) (key : Int32) : f_X6_bedsFor κ F (some m) key (MH m V σ) = some ((spBedsFor S.1 key).2, MH m (wth V (spBedsFor S.1 key).1) σ) := by
  have hg : gaI (MH m V σ) (some (m + 1)) 0 (466 : Int32) = some (vp V 466) := MH_gvp (k := 466) rfl (by omega)
  unfold spBedsFor
  rw [f_X6_bedsFor, f_X6_bedsFor_0, q_isKey, gB2_s]
  cases inR key 0 99 with
  | false => simp only [Bool.false_eq_true, if_false, if_true, eq_self, f_X6_bedsFor_28, MH_wth hm, gB1_s, MH_vth, vth_wth, i10, f_X6_bedsFor_47]
  | true =>
    simp only [if_true, i10, if_false, MH_rvp, gB1_s, hg, q_p466 h.1]
    cases hd : isDr S.1 with
    | false => simp only [Bool.false_eq_true, if_false, if_true, eq_self, f_X6_bedsFor_28, MH_wth hm, gB1_s, MH_vth, vth_wth, i12z, f_X6_bedsFor_47]
    | true =>
      have h0 : MR (vp (wth V 0)) S.1 := h.1
      simp only [if_true, i10, if_false, eq_self, f_X6_bedsFor_28, MH_wth hm, gB1_s, MH_vth, vth_wth, MH_ck, q_bedsOf h0 hF hw.1.1.1 (WF_okD hw.1 hd) key, gB2_s, f_X6_bedsFor_47]
theorem q_reason {n : Nat} {S : aS} (h : MM V S) (hw : WS n S) (hm : κ.1 ≤ m) (hF : 40 ≤ F) (key : Int32) : f_X6_reason κ F (some m) key (MH m V σ) = some ((spReason S.1 key).2, MH m (wth V (spReason S.1 key).1) σ) := by
  have hg : gaI (MH m V σ) (some (m + 1)) 0 (466 : Int32) = some (vp V 466) := MH_gvp (k := 466) rfl (by omega)
  have l1 : ((1 : Int32) ≤ 0) = False := eq_false (by decide)
  have l2 : ((2 : Int32) ≤ 0) = False := eq_false (by decide)
  have l0 : ((0 : Int32) ≤ 0) = True := eq_true (by decide)
  unfold spReason
  rw [f_X6_reason, f_X6_reason_0, q_isKey, gB2_s]
  cases inR key 0 99 with
  | false => simp only [Bool.false_eq_true, if_false, if_true, eq_self, f_X6_reason_28, MH_wth hm, gB1_s, MH_vth, vth_wth, l1]
  | true =>
    simp only [if_true, i10, if_false, MH_rvp, gB1_s, hg, q_p466 h.1]
    cases hd : isDr S.1 with
    | false => simp only [Bool.false_eq_true, if_false, if_true, eq_self, f_X6_reason_28, MH_wth hm, gB1_s, MH_vth, vth_wth, l2]
    | true =>
      have h0 : MR (vp (wth V 0)) S.1 := h.1
      simp only [if_true, i10, if_false, eq_self, f_X6_reason_28, MH_wth hm, gB1_s, MH_vth, vth_wth, l0, MH_ck, q_bedsOf h0 hF hw.1.1.1 (WF_okD hw.1 hd) key, gB2_s]
      unfold vReason
      by_cases c : bedsFor S.1 (dirL S.1 (drD S.1)) key = -1000
      · rw [if_pos c, if_pos c, f_X6_reason_70]
      · rw [if_neg c, if_neg c, q_many (MR_0 h0) hF, gB2_s]
        split <;> rw [f_X6_reason_70]
theorem q_neededWithout {n : Nat} {S : aS} (h : MM V S) (hw : WS n S) (hm : κ.1 ≤ m) (hF : 40 ≤ F) (r : Int32) : f_X6_neededWithout κ F (some m) r (MH m V σ) = some ((spNeeded S.1 r).2, MH m (wth V (spNeeded S.1 r).1) σ) := by
  unfold spNeeded
  rw [f_X6_neededWithout, f_X6_neededWithout_0, q_isReader, gB2_s]
  cases c1 : inR r 0 3 with
  | false => simp only [Bool.false_eq_true, if_false, if_true, eq_self, f_X6_neededWithout_26, MH_wth hm, gB1_s, MH_vth, vth_wth, i10, f_X6_neededWithout_45]
  | true =>
    obtain ⟨k, hk, rfl⟩ := inR_nat (b := 3) (by omega) c1
    simp only [if_true, i10, if_false, MH_ck, gB1_s, q_ofReader0 (show k < 4 by omega), gB2_s, q_rdOpen h.1 (show k < 4 by omega), (i3_ok (k := k) (by omega)).2]
    cases (aRd S.1 k).isSome with
    | false => simp only [Bool.false_eq_true, if_false, if_true, eq_self, f_X6_neededWithout_26, MH_wth hm, gB1_s, MH_vth, vth_wth, i12z, f_X6_neededWithout_45]
    | true =>
      have h0 : MR0 (vp (wth V 0)) S.1 := MR_0 h.1
      simp only [i10, if_false, if_true, eq_self, f_X6_neededWithout_26, MH_wth hm, gB1_s, MH_vth, vth_wth, MH_ck, q_needed h0 (show 8 ≤ F by omega), gB2_s, f_X6_neededWithout_45]
theorem q_changed33 {n : Nat} {A : aG} (h : MR (vp V) A) (hth : vth V = 0) (hw : WF n A) (hF : 40 ≤ F) {k : Nat} (hk : k < 4) {q : Int32 × Nat} (hd : aRd A k = some q) : ∀ (d fuel i : Nat), i + d = 100 → d < fuel → f_X6_changedSince_33 κ F fuel (some m) (Int32.ofNat k) (Int32.ofNat (unl A q.2 i)) (Int32.ofNat i) (MH m V σ) = some (Int32.ofNat (unl A q.2 100), MH m V σ)
  | 0, fuel, i, hi, hf => by
    obtain ⟨f, rfl⟩ : ∃ f, fuel = f + 1 := ⟨fuel - 1, by omega⟩
    have hi : i = 100 := by omega
    subst hi
    rw [f_X6_changedSince_33, f_X6_changedSince_33b, if_pos (by decide), f_X6_changedSince_83]
  | d + 1, fuel, i, hi, hf => by
    obtain ⟨f, rfl⟩ : ∃ f, fuel = f + 1 := ⟨fuel - 1, by omega⟩
    have c4 : ¬ ((100 : Int32) ≤ Int32.ofNat i) := by rw [show (100 : Int32) = Int32.ofNat 100 from rfl, i3_le (by omega) (by omega)]; omega
    have ih := q_changed33 h hth hw hF hk hd d f (i + 1) (by omega) (by omega)
    have q2 : f_X6_ofReader κ F (some m) (Int32.ofNat k) (2 : Int32) (MH m V σ) = some (Int32.ofNat q.2, MH m V σ) := by
      have := q_ofReader (κ := κ) (F := F) (m := m) (V := V) (σ := σ) (r := k) (w := 2) (by omega)
      refine this.trans ?_
      have hr := h.2.2.1 k (by omega)
      rw [hd] at hr
      rw [hr.2.2]
    have hu : unl A q.2 (i + 1) = unl A q.2 i + (if !(valBy A (nowD A) (Int32.ofNat i) == valBy A q.2 (Int32.ofNat i)) then 1 else 0) := cnt_s _ _
    rw [hu] at ih
    rw [f_X6_changedSince_33, f_X6_changedSince_33b, if_neg c4, MH_vth, gB1_s, hth, if_pos rfl, MH_ck, gB1_s, q_now (MR_0 h) hw.1.1, gB2_s, MH_ck, gB1_s, q_valueBy (MR_0 h) hF (WF_now hw), gB2_s, MH_ck, gB1_s, q2, gB2_s, MH_ck, gB1_s, q_valueBy (MR_0 h) hF (WF_rdr hw hk hd), gB2_s]
    by_cases c : valBy A (nowD A) (Int32.ofNat i) = valBy A q.2 (Int32.ofNat i)
    · rw [if_pos c, f_X6_changedSince_75, Int32.add_zero, i3_s]
      rw [if_neg (by simp [c])] at ih
      exact ih
    · rw [if_neg c, f_X6_changedSince_75, i3_s, i3_s]
      rw [if_pos (by simp [c])] at ih
      exact ih
theorem q_changedSince {n : Nat} {S : aS} (h : MM V S) (hw : WS n S) (hm : κ.1 ≤ m) (hF : 200 ≤ F) (r : Int32) : f_X6_changedSince κ F (some m) r (MH m V σ) = some ((spChanged S.1 r).2, MH m (wth V (spChanged S.1 r).1) σ) := by
  obtain ⟨f, rfl⟩ : ∃ f, F = f + 1 := ⟨F - 1, by omega⟩
  have l100 : ((100 : Int32) ≤ 0) = False := eq_false (by decide)
  unfold spChanged
  rw [f_X6_changedSince, f_X6_changedSince_0, q_isReader, gB2_s]
  cases c1 : inR r 0 3 with
  | false => simp only [Bool.false_eq_true, if_false, if_true, eq_self, f_X6_changedSince_26, MH_wth hm, gB1_s, f_X6_changedSince_33, f_X6_changedSince_33b, l100, MH_vth, vth_wth, i10, f_X6_changedSince_83]
  | true =>
    obtain ⟨k, hk, rfl⟩ := inR_nat (b := 3) (by omega) c1
    simp only [if_true, i10, if_false, MH_ck, gB1_s, q_ofReader0 (show k < 4 by omega), gB2_s, q_rdOpen h.1 (show k < 4 by omega), (i3_ok (k := k) (by omega)).2]
    cases hd : aRd S.1 k with
    | none => simp only [Option.isSome_none, Bool.false_eq_true, if_false, if_true, eq_self, f_X6_changedSince_26, MH_wth hm, gB1_s, f_X6_changedSince_33, f_X6_changedSince_33b, l100, MH_vth, vth_wth, i12z, f_X6_changedSince_83]
    | some q =>
      simp only [Option.isSome_some, i10, if_false, if_true, f_X6_changedSince_26, MH_wth hm, gB1_s]
      have h0 : MR (vp (wth V 0)) S.1 := h.1
      exact q_changed33 (V := wth V 0) h0 rfl hw.1 (by omega) (show k < 4 by omega) hd 100 (f + 1) 0 (by omega) (by omega)
theorem q_type {n : Nat} {S : aS} (h : MM V S) (hw : WS n S) (hm : κ.1 ≤ m) (v : Int32) : ∃ V', f_X6_type κ F (some m) v (MH m V σ) = some ((spType S v).2.1, MH m V' σ) ∧ vth V' = (spType S v).1 ∧ MM V' (spType S v).2.2 ∧ WS n (spType S v).2.2 := by
  obtain ⟨m1, m2, m3, m4, m5⟩ := h
  have h150 := hw.2.2.2.1
  have hlen : vln (wth V 0) = Int32.ofNat S.2.2.length := m4
  unfold spType
  rw [f_X6_type, f_X6_type_0, MH_wth hm, gB1_s, q_in, gB2_s]
  cases c1 : inR v 0 127 with
  | false =>
    simp only [Bool.false_eq_true, if_false, if_true, eq_self, MH_ck, gB1_s, q_fails hm, gB2_s]
    exact ⟨_, rfl, rfl, ⟨m1, m2, m3, m4, m5⟩, hw⟩
  | true =>
    simp only [if_true, i10, if_false, MH_vln, gB1_s, hlen]
    by_cases c : S.2.2.length = 150
    · rw [if_pos (show Int32.ofNat S.2.2.length = (150 : Int32) from by rw [c]; rfl), if_pos c, MH_ck, gB1_s, q_fails hm, gB2_s]
      exact ⟨_, rfl, rfl, ⟨m1, m2, m3, m4, m5⟩, hw⟩
    · have s1 : gsI κ (MH m (wth V 0) σ) (some (m + 4)) (Int32.ofNat S.2.2.length) v = some (MH m (wtx (wth V 0) (va_up (vtx V) S.2.2.length v)) σ) := MH_svtx (V := wth V 0) hm rfl (by omega) v
      have hl2 : vln (wtx (wth V 0) (va_up (vtx V) S.2.2.length v)) = Int32.ofNat S.2.2.length := m4
      rw [if_neg (show ¬ Int32.ofNat S.2.2.length = (150 : Int32) from fun e => c ((i3_inj (b := 150) (by omega) (by omega)).mp e)), if_neg c, MH_rvtx, gB1_s, s1, gB1_s, MH_vln, gB1_s, hl2, i3_s, MH_wln hm, gB1_s, MH_vln, gB1_s]
      refine ⟨_, rfl, rfl, ⟨m1, m2, m3, ?_, fun i hi => ?_⟩, hw.1, hw.2.1, hw.2.2.1, ?_, fun x hx => ?_⟩
      · show Int32.ofNat (S.2.2.length + 1) = Int32.ofNat (S.2.2 ++ [v]).length
        rw [List.length_append]; rfl
      · show va_up (vtx V) S.2.2.length v i = (S.2.2 ++ [v]).getD i 0
        have hi : i < (S.2.2 ++ [v]).length := hi
        rw [List.length_append, List.length_singleton] at hi
        by_cases e : i = S.2.2.length
        · rw [e, vup_at, List.getD_eq_getElem?_getD, List.getElem?_append_right (Nat.le_refl _), Nat.sub_self]; rfl
        · rw [vup_ne e, m5 i (by omega), List.getD_eq_getElem?_getD, List.getD_eq_getElem?_getD, List.getElem?_append_left (by omega)]
      · show (S.2.2 ++ [v]).length ≤ 150
        rw [List.length_append, List.length_singleton]; omega
      · rcases List.mem_append.mp hx with hx | hx
        · exact hw.2.2.2.2 x hx
        · have : x = v := by simpa using hx
          rw [this]
          unfold inR at c1
          exact of_decide_eq_true c1
theorem q_clear {n : Nat} {S : aS} (h : MM V S) (hw : WS n S) (hm : κ.1 ≤ m) : ∃ V', f_X6_clearCommands κ F (some m) (MH m V σ) = some (Int32.ofNat S.2.2.length, MH m V' σ) ∧ MM V' (S.1, S.2.1, []) ∧ WS n (S.1, S.2.1, []) := by
  obtain ⟨m1, m2, m3, m4, m5⟩ := h
  have hlen : vln (wth V 0) = Int32.ofNat S.2.2.length := m4
  rw [f_X6_clearCommands, f_X6_clearCommands_0, MH_wth hm, gB1_s, MH_vln, gB1_s, MH_wln hm, gB1_s, hlen]
  exact ⟨_, rfl, ⟨m1, m2, m3, rfl, fun i hi => absurd hi (Nat.not_lt_zero _)⟩, hw.1, hw.2.1, hw.2.2.1, Nat.zero_le _, fun x hx => by cases hx⟩
theorem q_undo {n : Nat} {S : aS} (h : MM V S) (hw : WS n S) (hm : κ.1 ≤ m) (hF : 500 ≤ F) : ∃ V', f_X6_undo κ F (some m) (MH m V σ) = some ((spUndo S).2.1, MH m V' σ) ∧ vth V' = (spUndo S).1 ∧ MM V' (spUndo S).2.2 ∧ WS n (spUndo S).2.2 := by
  obtain ⟨m1, m2, m3, m4, m5⟩ := h
  have hl4 := hw.2.1
  have hst : vst (wth V 0) = Int32.ofNat S.2.1.length := m2
  unfold spUndo
  rw [f_X6_undo, f_X6_undo_0, MH_wth hm, gB1_s, MH_vst, gB1_s, hst]
  by_cases c : S.2.1 = []
  · rw [if_pos c, if_pos (show Int32.ofNat S.2.1.length = (0 : Int32) from by rw [c]; rfl), MH_ck, gB1_s, q_fails hm, gB2_s]
    exact ⟨_, rfl, rfl, ⟨m1, m2, m3, m4, m5⟩, hw⟩
  · have hpos : 0 < S.2.1.length := List.length_pos_iff.mpr c
    obtain ⟨k, hk⟩ : ∃ k, S.2.1.length = k + 1 := ⟨S.2.1.length - 1, by omega⟩
    have hz : (470 : Int32) * Int32.ofNat k = Int32.ofNat (470 * k) := i3_mul 470 k
    have hs2 : vst (wst (wth V 0) (Int32.ofNat k)) = Int32.ofNat k := rfl
    rw [if_neg c, if_neg (show ¬ Int32.ofNat S.2.1.length = (0 : Int32) from fun e => by have := (i3_inj (b := 0) (by omega) (by omega)).mp e; omega), gB1_s, hk, i3_p, MH_wst hm, gB1_s, MH_rvsv, gB1_s, MH_vst, gB1_s, hs2, MH_rvp, gB1_s, hz]
    show ∃ V', gB2 (f_X6_bring κ F (some (m + 3)) (Int32.ofNat (470 * k)) (some (m + 1)) (Int32.ofNat 0) (MH m (wst (wth V 0) (Int32.ofNat k)) σ)) _ = _ ∧ _
    rw [q_bring_sp hm (by omega) (by omega) (by omega), gB2_s, MH_vst, gB1_s]
    have hdl : S.2.1.dropLast.length = k := by rw [List.length_dropLast, hk]; rfl
    refine ⟨_, rfl, rfl, ⟨?_, ?_, fun i hi => ?_, m4, m5⟩, ?_, ?_, fun B hB => hw.2.2.1 B (List.dropLast_subset _ hB), hw.2.2.2⟩
    · show MR (cpy (vsv V) (vp V) (470 * k) 0 470) (S.2.1.getD k A00)
      refine MR_cg (m3 k (by omega)) (fun j hj => ?_)
      unfold cpy
      rw [if_pos (by omega)]
      rfl
    · show Int32.ofNat k = Int32.ofNat S.2.1.dropLast.length
      rw [hdl]
    · have hi : i < S.2.1.dropLast.length := hi
      rw [hdl] at hi
      have := m3 i (by omega)
      have e : S.2.1.dropLast.getD i A00 = S.2.1.getD i A00 := by
        rw [getD_get (by rw [hdl]; exact hi), List.getElem_dropLast, ← getD_get (x := A00) (by omega)]
      show MR _ (S.2.1.dropLast.getD i A00)
      rw [e]
      exact this
    · show WF n (S.2.1.getD k A00)
      exact hw.2.2.1 _ (getD_mem (by omega))
    · show S.2.1.dropLast.length ≤ 4
      omega
end Q
