/-! the reference: what it tells -/
def eat (l : List (Int32 × Int32)) (b left w : Nat) : Int32 := match w with
  | 0 => (l.getD left (0, 0)).1
  | 1 => (l.getD left (0, 0)).2
  | 2 => Int32.ofNat b
  | _ => Int32.ofNat left
/-- an entry, by its rank over the leaves -/
def entry (A : aG) : List Nat → Nat → Nat → Int32
  | [], _, _ => -1000
  | b :: D, left, w => if left < (leafL A b).length then eat (leafL A b) b left w else entry A D (left - (leafL A b).length) w
def valsL (A : aG) (D : List Nat) : List Int32 := D.flatMap (fun b => (leafL A b).map Prod.snd)
def sumV (A : aG) (D : List Nat) : Int32 := (valsL A D).foldl (· + ·) 0
theorem valsL_cons (A : aG) (b : Nat) (D : List Nat) : valsL A (b :: D) = (leafL A b).map Prod.snd ++ valsL A D := by
  unfold valsL
  rw [List.flatMap_cons]
theorem valsL_len (A : aG) : ∀ D : List Nat, (valsL A D).length = entsBy A D
  | [] => rfl
  | b :: D => by
    rw [valsL_cons, List.length_append, List.length_map, valsL_len A D]
    unfold entsBy
    rw [List.map_cons, List.sum_cons]
theorem entry_1 (A : aG) : ∀ (D : List Nat) (k : Nat), k < entsBy A D → entry A D k 1 = (valsL A D).getD k 0
  | [], k, h => by unfold entsBy at h; simp at h
  | b :: D, k, h => by
    rw [entry, valsL_cons]
    by_cases c : k < (leafL A b).length
    · rw [if_pos c]
      show ((leafL A b).getD k (0, 0)).2 = _
      rw [getD_get c, List.getD_eq_getElem?_getD, List.getElem?_append_left (by rw [List.length_map]; exact c), List.getElem?_map, List.getElem?_eq_getElem c]
      rfl
    · have h2 : k - (leafL A b).length < entsBy A D := by
        unfold entsBy at h ⊢
        rw [List.map_cons, List.sum_cons] at h
        omega
      rw [if_neg c, entry_1 A D _ h2, List.getD_eq_getElem?_getD, List.getD_eq_getElem?_getD, List.getElem?_append_right (by rw [List.length_map]; omega), List.length_map]
def vTell (A : aG) (w : Nat) : Int32 := match w with
  | 0 => Int32.ofNat (cnt (fun b => decide (aSt A b = 0)) 32)
  | 1 => Int32.ofNat (cnt (fun b => decide (aSt A b = 1)) 32)
  | 2 => Int32.ofNat (cnt (fun b => decide (aSt A b = 2)) 32)
  | 3 => Int32.ofNat (cnt (digg A) 32)
  | 4 => need A (-1)
  | 5 => Int32.ofNat (entsBy A (dirL A (nowD A)))
  | 6 => Int32.ofNat (dirL A (nowD A)).length
  | 7 => Int32.ofNat (opens A)
  | 8 => if isDr A then 1 else 0
  | 9 => Int32.ofNat (cnt (isNew A) 32)
  | 10 => Int32.ofNat (cnt (isLeft A) 32)
  | 11 => aCm A
  | 12 => aLs A
  | _ => sumV A (dirL A (nowD A))
theorem WF_now {n : Nat} {A : aG} (hw : WF n A) : okD A (nowD A) (dirL A (nowD A)) := VR_okD hw.1.2.2.2.2.2.1 (fun b hb => by rw [(hw.1.2.2.2.2.2.2.1 b hb).1]; decide)
theorem WF_rdr {n : Nat} {A : aG} (hw : WF n A) {k : Nat} {q : Int32 × Nat} (hk : k < 4) (hq : aRd A k = some q) : okD A q.2 (dirL A q.2) := by
  obtain ⟨a1, a2, a3⟩ := hw.1.2.2.2.2.2.2.2 k q hk hq
  refine VR_okD a2 (fun b hb => ?_)
  rcases (a3 b hb).1 with e | e
  · rw [e]; decide
  · rw [e.1]; decide
theorem ents_le {A : aG} {P : mR} (h : MR0 P A) : ∀ {D : List Nat}, (∀ b ∈ D, b < 32 ∧ aSt A b ≠ 0 ∧ ∃ l, aPg A b = .inl l ∧ l ≠ []) → entsBy A D ≤ 4 * D.length
  | [], _ => Nat.le_refl _
  | b :: D, hD => by
    have ih := ents_le h (D := D) (fun c hc => hD c (List.mem_cons_of_mem _ hc))
    obtain ⟨b1, b2, l, b3, b4⟩ := hD b List.mem_cons_self
    have h4 := (MR_leaf h b1 b2 b3).2.2.1
    unfold entsBy at ih ⊢
    rw [List.map_cons, List.sum_cons, leafL_of b3, List.length_cons]
    omega
section Q
variable {κ : gK} {F : Nat} {m : Nat} {V : mV} {σ : gS}
theorem q_tellEntry5 {A : aG} (h : MR0 (vp V) A) (hn : okNow A) (hD : okD A (nowD A) (dirL A (nowD A))) {w : Nat} (hw : w < 4) : ∀ (D2 D1 : List Nat) (fuel left : Nat), dirL A (nowD A) = D1 ++ D2 → left < entsBy A D2 → D2.length < fuel →
    f_X6_tellEntry_5 κ F fuel (some m) (Int32.ofNat w) (Int32.ofNat left) (Int32.ofNat D1.length) (MH m V σ) = some (entry A D2 left w, MH m V σ)
  | [], D1, fuel, left, hl, hlt, hf => by unfold entsBy at hlt; simp at hlt
  | b :: D2, D1, fuel, left, hl, hlt, hf => by
    obtain ⟨f, rfl⟩ : ∃ f, fuel = f + 1 := ⟨fuel - 1, by omega⟩
    obtain ⟨z1, z2, z3, z4⟩ := MR_dir h hD.1 hD.2.1 hD.2.2.1
    have hlen : (dirL A (nowD A)).length = D1.length + (D2.length + 1) := by rw [hl, List.length_append, List.length_cons]
    have hb : b ∈ dirL A (nowD A) := by rw [hl]; exact List.mem_append_right _ List.mem_cons_self
    obtain ⟨b1, b2, l, b3, b4⟩ := hD.2.2.2 b hb
    obtain ⟨y1, y2, y3, y4⟩ := MR_leaf h b1 b2 b3
    have hg : (dirL A (nowD A)).getD D1.length 0 = b := by rw [hl, List.getD_eq_getElem?_getD, List.getElem?_append_right (Nat.le_refl _), Nat.sub_self]; rfl
    have q1 : f_X6_leafAt κ F (some m) (Int32.ofNat (nowD A)) (Int32.ofNat D1.length) (MH m V σ) = some (Int32.ofNat b, MH m V σ) := by
      have := hD.1
      rw [q_leafAt (by omega), z4 _ (by omega), hg]
    have q2 : f_X6_of κ F (some m) (Int32.ofNat b) (2 : Int32) (MH m V σ) = some (Int32.ofNat l.length, MH m V σ) := by rw [q_of2 b1, y2]
    have hlf := leafL_of b3
    have h24 := ents_le h (D := dirL A (nowD A)) hD.2.2.2
    have hle : entsBy A (b :: D2) ≤ entsBy A (dirL A (nowD A)) := by
      rw [hl]
      unfold entsBy
      rw [List.map_append, List.sum_append]
      omega
    have hel : entsBy A (b :: D2) = l.length + entsBy A D2 := by unfold entsBy; rw [List.map_cons, List.sum_cons, hlf]
    rw [f_X6_tellEntry_5, f_X6_tellEntry_5b, MH_ck, gB1_s, q_now h hn, gB2_s, MH_ck, gB1_s, q1, gB2_s, MH_ck, gB1_s, q2, gB2_s, entry, hlf]
    by_cases c : left < l.length
    · rw [if_pos c, if_pos ((i3_lt (by omega) (by omega)).mpr c), MH_ck, gB1_s, q_now h hn, gB2_s, MH_ck, gB1_s, q1, gB2_s]
      have q3 : f_X6_keyAt κ F (some m) (Int32.ofNat b) (Int32.ofNat left) (MH m V σ) = some ((l.getD left (0, 0)).1, MH m V σ) := by rw [q_keyAt (by omega), (y4 left c).1]
      have q4 : f_X6_valueAt κ F (some m) (Int32.ofNat b) (Int32.ofNat left) (MH m V σ) = some ((l.getD left (0, 0)).2, MH m V σ) := by rw [q_valueAt (by omega), (y4 left c).2]
      match w, hw with
      | 0, _ => rw [if_pos (by decide), MH_ck, gB1_s, q3, gB2_s, f_X6_tellEntry_100]; rfl
      | 1, _ => rw [if_neg (by decide), if_pos (by decide), MH_ck, gB1_s, q4, gB2_s, f_X6_tellEntry_100]; rfl
      | 2, _ => rw [if_neg (by decide), if_neg (by decide), if_pos (by decide), f_X6_tellEntry_100]; rfl
      | 3, _ => rw [if_neg (by decide), if_neg (by decide), if_neg (by decide), f_X6_tellEntry_100]; rfl
    · rw [if_neg c, if_neg (fun e => c ((i3_lt (by omega) (by omega)).mp e)), MH_ck, gB1_s, q_now h hn, gB2_s, MH_ck, gB1_s, q1, gB2_s, MH_ck, gB1_s, q2, gB2_s, i3_sub (by omega), i3_s]
      have ih := q_tellEntry5 h hn hD hw D2 (D1 ++ [b]) f (left - l.length) (by rw [hl, List.append_assoc]; rfl) (by omega) (by simpa using hf)
      rw [List.length_append, List.length_singleton] at ih
      exact ih
theorem q_tellEntry {n : Nat} {A : aG} (h : MR (vp V) A) (hwf : WF n A) (hF : 40 ≤ F) {k w : Nat} (hw : w < 4) (hk : k < entsBy A (dirL A (nowD A))) : f_X6_tellEntry κ F (some m) (Int32.ofNat k) (Int32.ofNat w) (MH m V σ) = some (entry A (dirL A (nowD A)) k w, MH m V σ) := by
  have hD := WF_now hwf
  have h6 := (MR_dir (MR_0 h) hD.1 hD.2.1 hD.2.2.1).2.2.1
  rw [f_X6_tellEntry, f_X6_tellEntry_0]
  exact q_tellEntry5 (MR_0 h) hwf.1.1 hD hw (dirL A (nowD A)) [] F k rfl hk (by omega)
theorem q_sum4 {n : Nat} {A : aG} (h : MR (vp V) A) (hwf : WF n A) (hF : 40 ≤ F) : ∀ (d fuel k : Nat), k + d = entsBy A (dirL A (nowD A)) → d < fuel → f_X6_sumOfValues_4 κ F fuel (some m) (((valsL A (dirL A (nowD A))).take k).foldl (· + ·) 0) (Int32.ofNat k) (MH m V σ) = some (sumV A (dirL A (nowD A)), MH m V σ)
  | 0, fuel, k, hk, hf => by
    obtain ⟨f, rfl⟩ : ∃ f, fuel = f + 1 := ⟨fuel - 1, by omega⟩
    have hD := WF_now hwf
    have hk : k = entsBy A (dirL A (nowD A)) := by omega
    rw [f_X6_sumOfValues_4, f_X6_sumOfValues_4b, MH_ck, gB1_s, q_now (MR_0 h) hwf.1.1, gB2_s, MH_ck, gB1_s, q_entriesBy (MR_0 h) hF hD, gB2_s, hk, if_pos (Int32.le_refl _), List.take_of_length_le (by rw [valsL_len]; exact Nat.le_refl _)]
    rfl
  | d + 1, fuel, k, hk, hf => by
    obtain ⟨f, rfl⟩ : ∃ f, fuel = f + 1 := ⟨fuel - 1, by omega⟩
    have hD := WF_now hwf
    have h6 := (MR_dir (MR_0 h) hD.1 hD.2.1 hD.2.2.1).2.2.1
    have h24 := ents_le (MR_0 h) (D := dirL A (nowD A)) hD.2.2.2
    have ih := q_sum4 h hwf hF d f (k + 1) (by omega) (by omega)
    have hkl : k < (valsL A (dirL A (nowD A))).length := by rw [valsL_len]; omega
    have hq := q_tellEntry (κ := κ) (F := F) (m := m) (V := V) (σ := σ) h hwf hF (k := k) (w := 1) (by omega) (by omega)
    rw [f_X6_sumOfValues_4, f_X6_sumOfValues_4b, MH_ck, gB1_s, q_now (MR_0 h) hwf.1.1, gB2_s, MH_ck, gB1_s, q_entriesBy (MR_0 h) hF hD, gB2_s, if_neg (by rw [i3_le (by omega) (by omega)]; omega), MH_ck, gB1_s]
    show gB2 (f_X6_tellEntry κ F (some m) (Int32.ofNat k) (Int32.ofNat 1) (MH m V σ)) _ = _
    rw [hq, gB2_s, i3_s, entry_1 A _ k (by omega)]
    rw [List.take_succ_eq_append_getElem hkl, List.foldl_append] at ih
    rw [getD_get hkl]
    exact ih
theorem q_sumOfValues {n : Nat} {A : aG} (h : MR (vp V) A) (hwf : WF n A) (hF : 40 ≤ F) : f_X6_sumOfValues κ F (some m) (MH m V σ) = some (sumV A (dirL A (nowD A)), MH m V σ) := by
  have hD := WF_now hwf
  have h6 := (MR_dir (MR_0 h) hD.1 hD.2.1 hD.2.2.1).2.2.1
  have h24 := ents_le (MR_0 h) (D := dirL A (nowD A)) hD.2.2.2
  rw [f_X6_sumOfValues, f_X6_sumOfValues_0]
  exact q_sum4 h hwf hF (entsBy A (dirL A (nowD A))) F 0 (by omega) (by omega)
theorem q_tell {n : Nat} {A : aG} (h : MR (vp V) A) (hwf : WF n A) (hF : 40 ≤ F) {w : Nat} (hw : w < 15) : f_X6_tell κ F (some m) (Int32.ofNat w) (MH m V σ) = some (if w = 14 then vln V else vTell A w, MH m V σ) := by
  have hD := WF_now hwf
  have h0 := MR_0 h
  have hst : ∀ k : Nat, k < 3 → ∀ b, b < 32 → (vp V (14 * b + 0) = Int32.ofNat k ↔ decide (aSt A b = k) = true) := fun k hk b hb => by
    obtain ⟨r1, r2, r3⟩ := h.1 b hb
    rw [show 14 * b + 0 = 14 * b from rfl, r1, i3_inj (by omega) (by omega)]
    exact ⟨fun e => decide_eq_true e, fun e => of_decide_eq_true e⟩
  have hnw : ∀ b, b < 32 → (vp V (14 * b + 4) = 1 ↔ isNew A b = true) := fun b hb => by
    rw [(h.1 b hb).2.2.2.1]
    cases isNew A b <;> decide
  have hlw : ∀ b, b < 32 → (vp V (14 * b + 5) = 1 ↔ isLeft A b = true) := fun b hb => by
    rw [(h.1 b hb).2.2.2.2.1]
    cases isLeft A b <;> decide
  have g : ∀ k : Nat, k < 470 → ∀ z : Int32, z = Int32.ofNat k → gaI (MH m V σ) (some (m + 1)) 0 z = some (vp V k) := fun k hk z hz => MH_gvp hz hk
  rw [f_X6_tell, f_X6_tell_0]
  match w, hw with
  | 0, _ =>
    rw [if_pos (by decide), f_X6_tell_72, MH_ck, gB1_s, q_bedsWith (x := (0 : Int32)) (v := Int32.ofNat 0) hF (w := 0) rfl (by omega) (hst 0 (by omega)), gB2_s]; rfl
  | 1, _ =>
    rw [if_neg (by decide), if_pos (by decide), f_X6_tell_72, MH_ck, gB1_s, q_bedsWith (x := (0 : Int32)) (v := Int32.ofNat 1) hF (w := 0) rfl (by omega) (hst 1 (by omega)), gB2_s]; rfl
  | 2, _ =>
    rw [if_neg (by decide), if_neg (by decide), if_pos (by decide), f_X6_tell_72, MH_ck, gB1_s, q_bedsWith (x := (0 : Int32)) (v := Int32.ofNat 2) hF (w := 0) rfl (by omega) (hst 2 (by omega)), gB2_s]; rfl
  | 3, _ =>
    rw [if_neg (by decide), if_neg (by decide), if_neg (by decide), if_pos (by decide), MH_ck, gB1_s, q_freed h0 hF, gB2_s]; rfl
  | 4, _ =>
    rw [if_neg (by decide), if_neg (by decide), if_neg (by decide), if_neg (by decide), if_pos (by decide), MH_ck, gB1_s, q_needed h0 (by omega), gB2_s]; rfl
  | 5, _ =>
    rw [if_neg (by decide), if_neg (by decide), if_neg (by decide), if_neg (by decide), if_neg (by decide), if_pos (by decide), MH_ck, gB1_s, q_now h0 hwf.1.1, gB2_s, MH_ck, gB1_s, q_entriesBy h0 hF hD, gB2_s]; rfl
  | 6, _ =>
    rw [if_neg (by decide), if_neg (by decide), if_neg (by decide), if_neg (by decide), if_neg (by decide), if_neg (by decide), if_pos (by decide), MH_ck, gB1_s, q_now h0 hwf.1.1, gB2_s, MH_ck, gB1_s, q_of2 hD.1, gB2_s, (MR_dir h0 hD.1 hD.2.1 hD.2.2.1).2.1]; rfl
  | 7, _ =>
    rw [if_neg (by decide), if_neg (by decide), if_neg (by decide), if_neg (by decide), if_neg (by decide), if_neg (by decide), if_neg (by decide), if_pos (by decide), MH_ck, gB1_s, q_opens h0 hF, gB2_s]; rfl
  | 8, _ =>
    rw [if_neg (by decide), if_neg (by decide), if_neg (by decide), if_neg (by decide), if_neg (by decide), if_neg (by decide), if_neg (by decide), if_neg (by decide), if_pos (by decide), MH_rvp, gB1_s, g 466 (by omega) (466 : Int32) rfl, gB1_s, q_p466 h]; rfl
  | 9, _ =>
    rw [if_neg (by decide), if_neg (by decide), if_neg (by decide), if_neg (by decide), if_neg (by decide), if_neg (by decide), if_neg (by decide), if_neg (by decide), if_neg (by decide), if_pos (by decide), MH_ck, gB1_s, q_bedsWith (x := (4 : Int32)) (v := (1 : Int32)) hF (w := 4) rfl (by omega) hnw, gB2_s]; rfl
  | 10, _ =>
    rw [if_neg (by decide), if_neg (by decide), if_neg (by decide), if_neg (by decide), if_neg (by decide), if_neg (by decide), if_neg (by decide), if_neg (by decide), if_neg (by decide), if_neg (by decide), if_pos (by decide), MH_ck, gB1_s, q_bedsWith (x := (5 : Int32)) (v := (1 : Int32)) hF (w := 5) rfl (by omega) hlw, gB2_s]; rfl
  | 11, _ =>
    rw [if_neg (by decide), if_neg (by decide), if_neg (by decide), if_neg (by decide), if_neg (by decide), if_neg (by decide), if_neg (by decide), if_neg (by decide), if_neg (by decide), if_neg (by decide), if_neg (by decide), if_pos (by decide), MH_rvp, gB1_s, g 468 (by omega) (468 : Int32) rfl, gB1_s, h.2.2.2.2.1]; rfl
  | 12, _ =>
    rw [if_neg (by decide), if_neg (by decide), if_neg (by decide), if_neg (by decide), if_neg (by decide), if_neg (by decide), if_neg (by decide), if_neg (by decide), if_neg (by decide), if_neg (by decide), if_neg (by decide), if_neg (by decide), if_pos (by decide), MH_rvp, gB1_s, g 469 (by omega) (469 : Int32) rfl, gB1_s, h.2.2.2.2.2]; rfl
  | 13, _ =>
    rw [if_neg (by decide), if_neg (by decide), if_neg (by decide), if_neg (by decide), if_neg (by decide), if_neg (by decide), if_neg (by decide), if_neg (by decide), if_neg (by decide), if_neg (by decide), if_neg (by decide), if_neg (by decide), if_neg (by decide), if_pos (by decide), MH_ck, gB1_s, q_sumOfValues h hwf hF, gB2_s]; rfl
  | 14, _ =>
    rw [if_neg (by decide), if_neg (by decide), if_neg (by decide), if_neg (by decide), if_neg (by decide), if_neg (by decide), if_neg (by decide), if_neg (by decide), if_neg (by decide), if_neg (by decide), if_neg (by decide), if_neg (by decide), if_neg (by decide), if_neg (by decide), MH_vln, gB1_s]; rfl
end Q
