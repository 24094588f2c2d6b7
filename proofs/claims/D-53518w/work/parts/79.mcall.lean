/-! the reference: its calls, over a session: the garden, the saved ones, the command text -/
abbrev aS : Type := aG × List aG × List Int32
theorem MR_cg {P P' : mR} {A : aG} (h : MR P A) (hP : ∀ j, j < 470 → P' j = P j) : MR P' A := by
  refine ⟨fun b hb => MRb_congr (h.1 b hb) (fun j _ _ => hP j (by omega)) rfl rfl rfl, fun r hr => ?_, fun k hk => ?_, ?_, ?_, ?_⟩
  · rw [hP _ (by omega), hP _ (by omega), hP _ (by omega)]; exact h.2.1 r hr
  · rw [hP _ (by omega), hP _ (by omega), hP _ (by omega)]; exact h.2.2.1 k hk
  · rw [hP _ (by omega), hP _ (by omega)]; exact h.2.2.2.1
  · rw [hP _ (by omega)]; exact h.2.2.2.2.1
  · rw [hP _ (by omega)]; exact h.2.2.2.2.2
def pushL (L : List aG) (A : aG) : List aG := (if L.length = 4 then L.tail else L) ++ [A]
/-- what a session is, apart from the reference -/
def WS (n : Nat) (S : aS) : Prop := WF n S.1 ∧ S.2.1.length ≤ 4 ∧ (∀ A ∈ S.2.1, WF n A) ∧ S.2.2.length ≤ 150 ∧ ∀ c ∈ S.2.2, 0 ≤ c ∧ c ≤ 127
def MM (V : mV) (S : aS) : Prop := MR (vp V) S.1 ∧ vst V = Int32.ofNat S.2.1.length ∧ (∀ i, i < S.2.1.length → MR (fun j => vsv V (470 * i + j)) (S.2.1.getD i A00)) ∧ vln V = Int32.ofNat S.2.2.length ∧ ∀ i, i < S.2.2.length → vtx V i = S.2.2.getD i 0
theorem WS_le {n n' : Nat} {S : aS} (h : WS n S) (hn : n ≤ n') : WS n' S := ⟨WF_le h.1 hn, h.2.1, fun A hA => WF_le (h.2.2.1 A hA) hn, h.2.2.2⟩
/-- a call's outcome: the number of what it throws, its answer, the session behind it -/
def resOf (S : aS) (sp : (aG × Int32) ⊕ Int32) : Int32 × Int32 × aS := match sp with
  | .inr c => (c, 0, S)
  | .inl q => (0, q.2, (q.1, pushL S.2.1 S.1, S.2.2))
theorem pushL_len {L : List aG} {A : aG} (h : L.length ≤ 4) : (pushL L A).length = if L.length = 4 then 4 else L.length + 1 := by
  unfold pushL
  by_cases c : L.length = 4
  · rw [if_pos c, if_pos c, List.length_append, List.length_tail, c]; rfl
  · rw [if_neg c, if_neg c, List.length_append]; rfl
theorem pushL_le {L : List aG} {A : aG} (h : L.length ≤ 4) : (pushL L A).length ≤ 4 := by
  rw [pushL_len h]
  split <;> omega
theorem pushL_mem {L : List aG} {A B : aG} (h : B ∈ pushL L A) : B ∈ L ∨ B = A := by
  unfold pushL at h
  rcases List.mem_append.mp h with h | h
  · left
    split at h
    · exact List.mem_of_mem_tail h
    · exact h
  · right
    simpa using h
theorem pushL_get {L : List aG} {A : aG} (h : L.length ≤ 4) {i : Nat} (hi : i < (pushL L A).length) : (pushL L A).getD i A00 = if i + 1 = (pushL L A).length then A else if L.length = 4 then L.getD (i + 1) A00 else L.getD i A00 := by
  have hl := pushL_len (A := A) h
  rw [hl] at hi ⊢
  unfold pushL
  by_cases c : L.length = 4
  · rw [if_pos c] at hi
    rw [if_pos c, if_pos c, if_pos c]
    have ht : L.tail.length = 3 := by rw [List.length_tail, c]
    rw [List.getD_eq_getElem?_getD]
    by_cases e : i + 1 = 4
    · rw [if_pos e, List.getElem?_append_right (by omega), show i - L.tail.length = 0 by omega]; rfl
    · rw [if_neg e, List.getElem?_append_left (by omega), List.getD_eq_getElem?_getD, List.getElem?_tail]
  · rw [if_neg c] at hi
    rw [if_neg c, if_neg c, if_neg c]
    rw [List.getD_eq_getElem?_getD]
    by_cases e : i + 1 = L.length + 1
    · rw [if_pos e, List.getElem?_append_right (by omega), show i - L.length = 0 by omega]; rfl
    · rw [if_neg e, List.getElem?_append_left (by omega), List.getD_eq_getElem?_getD]
section Q
variable {κ : gK} {F : Nat} {m : Nat} {V : mV} {σ : gS}
/-- the state behind hold -/
def holdV (V : mV) : mV := was (wco V 0) (cpy (vp V) (vas V) 0 0 470)
/-- an operation's end when it is done -/
theorem q_endsF {S : aS} {A' : aG} (h : MM V S) (hl : S.2.1.length ≤ 4) (hm : κ.1 ≤ m) (hF : 1500 ≤ F) {W : mV} {r : Int32} (hco : vco W = 0) (has : vas W = cpy (vp V) (vas V) 0 0 470) (hsv : vsv W = vsv V) (hst : vst W = vst V) (hln : vln W = vln V) (htx : vtx W = vtx V) (hp : MR (vp W) A') :
    ∃ V', f_X6_ends κ F (some m) r (MH m W σ) = some (r, MH m V' σ) ∧ vth V' = 0 ∧ MM V' (A', pushL S.2.1 S.1, S.2.2) := by
  obtain ⟨m1, m2, m3, m4, m5⟩ := h
  have hs : vst W = Int32.ofNat S.2.1.length := hst.trans m2
  refine ⟨_, q_ends hm hF hco hs hl, ?_, ?_⟩
  · split <;> rfl
  · have hlen := pushL_len (A := S.1) hl
    by_cases c : S.2.1.length = 4
    · rw [if_pos c] at hlen
      rw [if_pos c]
      refine ⟨hp, ?_, fun i hi => ?_, hln.trans m4, fun i hi => ?_⟩
      · show Int32.ofNat 4 = Int32.ofNat (pushL S.2.1 S.1).length
        rw [hlen]
      · rw [pushL_get hl hi]
        have hi4 : i < 4 := by rw [← hlen]; exact hi
        show MR (fun j => cpy (vas W) (shf (vsv W) 1410) 0 1410 470 (470 * i + j)) _
        by_cases e : i + 1 = (pushL S.2.1 S.1).length
        · rw [if_pos e]
          refine MR_cg m1 (fun j hj => ?_)
          show cpy (vas W) (shf (vsv W) 1410) 0 1410 470 (470 * i + j) = _
          unfold cpy
          rw [if_pos (by omega), has]
          unfold cpy
          rw [if_pos (by omega)]
          exact congrArg (vp V) (by omega)
        · rw [if_neg e, if_pos c]
          refine MR_cg (m3 (i + 1) (by omega)) (fun j hj => ?_)
          show cpy (vas W) (shf (vsv W) 1410) 0 1410 470 (470 * i + j) = _
          unfold cpy shf
          rw [if_neg (by omega), if_pos (by omega), hsv]
          exact congrArg (vsv V) (by omega)
      · show vtx W i = _
        rw [htx]
        exact m5 i hi
    · rw [if_neg c] at hlen
      rw [if_neg c]
      refine ⟨hp, ?_, fun i hi => ?_, hln.trans m4, fun i hi => ?_⟩
      · show Int32.ofNat (S.2.1.length + 1) = Int32.ofNat (pushL S.2.1 S.1).length
        rw [hlen]
      · rw [pushL_get hl hi]
        have hi4 : i < S.2.1.length + 1 := by rw [← hlen]; exact hi
        show MR (fun j => cpy (vas W) (vsv W) 0 (470 * S.2.1.length) 470 (470 * i + j)) _
        by_cases e : i + 1 = (pushL S.2.1 S.1).length
        · rw [if_pos e]
          refine MR_cg m1 (fun j hj => ?_)
          show cpy (vas W) (vsv W) 0 (470 * S.2.1.length) 470 (470 * i + j) = _
          have : i = S.2.1.length := by omega
          unfold cpy
          rw [if_pos (by omega), has]
          unfold cpy
          rw [if_pos (by omega)]
          exact congrArg (vp V) (by omega)
        · rw [if_neg e, if_neg c]
          have hil : i < S.2.1.length := by omega
          refine MR_cg (m3 i hil) (fun j hj => ?_)
          show cpy (vas W) (vsv W) 0 (470 * S.2.1.length) 470 (470 * i + j) = _
          unfold cpy
          rw [if_neg (by omega), hsv]
      · show vtx W i = _
        rw [htx]
        exact m5 i hi
/-- a call that changes the garden -/
theorem q_mut {n : Nat} {S : aS} (h : MM V S) (hw : WS n S) (hm : κ.1 ≤ m) (hF : 1500 ≤ F) {sp : (aG × Int32) ⊕ Int32} (hc : ∀ c, sp = .inr c → c ≠ 0) {f : gS → Option (Int32 × gS)}
    (hf : MR (vp (holdV V)) S.1 → (∀ c, sp = .inr c → f (MH m (holdV V) σ) = some (0, MH m (wco (holdV V) c) σ)) ∧ (∀ A' r, sp = .inl (A', r) → WF (n + 1) A' ∧ ∃ R P', f (MH m (holdV V) σ) = some (r, MH m (wp (wrw (holdV V) R) P') σ) ∧ MR P' A')) :
    ∃ V', (gB1 (gck (MH m V σ) (some m) 9) fun _ => gB2 (f_X6_hold κ F (some m) (MH m V σ)) fun v2 s1 => gB1 (gck s1 (some m) 9) fun _ => gB2 (f s1) fun v5 s4 => gB1 (gck s4 (some m) 9) fun _ => gB2 (f_X6_ends κ F (some m) v5 s4) fun v8 s7 => some (v8, s7)) = some ((resOf S sp).2.1, MH m V' σ) ∧
      vth V' = (resOf S sp).1 ∧ MM V' (resOf S sp).2.2 ∧ WS (n + 1) (resOf S sp).2.2 := by
  obtain ⟨m1, m2, m3, m4, m5⟩ := h
  obtain ⟨f1, f2⟩ := hf m1
  rw [MH_ck, gB1_s, q_hold hm (by omega), gB2_s, MH_ck, gB1_s]
  show ∃ V', gB2 (f (MH m (holdV V) σ)) _ = _ ∧ _
  cases sp with
  | inr c =>
    rw [f1 c rfl, gB2_s, MH_ck, gB1_s, q_ends_x hm (hc c rfl), gB2_s]
    exact ⟨_, rfl, rfl, ⟨m1, m2, m3, m4, m5⟩, WS_le hw (Nat.le_succ _)⟩
  | inl q =>
    obtain ⟨A', r⟩ := q
    obtain ⟨w, R, P', e1, e2⟩ := f2 A' r rfl
    obtain ⟨V', v1, v2, v3⟩ := q_endsF (κ := κ) (F := F) (m := m) (V := V) (σ := σ) (W := wp (wrw (holdV V) R) P') (r := r) (A' := A') ⟨m1, m2, m3, m4, m5⟩ hw.2.1 hm hF rfl rfl rfl rfl rfl rfl e2
    rw [e1, gB2_s, MH_ck, gB1_s, v1, gB2_s]
    refine ⟨V', rfl, v2, v3, w, pushL_le hw.2.1, fun B hB => ?_, hw.2.2.2⟩
    rcases pushL_mem hB with hB | hB
    · exact WF_le (hw.2.2.1 B hB) (Nat.le_succ _)
    · rw [hB]; exact WF_le hw.1 (Nat.le_succ _)
theorem q_begin {n : Nat} {S : aS} (h : MM V S) (hw : WS n S) (hm : κ.1 ≤ m) (hF : 1500 ≤ F) :
    ∃ V', f_X6_begin κ F (some m) (MH m V σ) = some ((resOf S (spBegin S.1)).2.1, MH m V' σ) ∧ vth V' = (resOf S (spBegin S.1)).1 ∧ MM V' (resOf S (spBegin S.1)).2.2 ∧ WS (n + 1) (resOf S (spBegin S.1)).2.2 := by
  refine q_mut (f := fun s => f_X6_doBegin κ F (some m) s) h hw hm hF (fun c e => ?_) (fun hM => ?_)
  · unfold spBegin at e; split at e
    · cases e; decide
    · cases e
  · obtain ⟨b1, b2⟩ := q_doBegin (κ := κ) (F := F) (m := m) (V := holdV V) (σ := σ) hM hm
    unfold spBegin
    cases hd : isDr S.1 with
    | true =>
      rw [if_pos rfl]
      exact ⟨fun c e => by cases e; exact b1 hd, fun A' r e => by cases e⟩
    | false =>
      rw [if_neg (by decide)]
      refine ⟨(fun c e => by cases e), fun A' r e => ?_⟩
      cases e
      obtain ⟨P', p1, p2⟩ := b2 hd
      exact ⟨WF_le (WF_begin hw.1 hd) (Nat.le_succ _), vrw V, P', p1, p2⟩
theorem q_put {n : Nat} {S : aS} (h : MM V S) (hw : WS n S) (hm : κ.1 ≤ m) (hF : 1500 ≤ F) (key v : Int32) :
    ∃ V', f_X6_put κ F (some m) key v (MH m V σ) = some ((resOf S (spPut S.1 key v)).2.1, MH m V' σ) ∧ vth V' = (resOf S (spPut S.1 key v)).1 ∧ MM V' (resOf S (spPut S.1 key v)).2.2 ∧ WS (n + 1) (resOf S (spPut S.1 key v)).2.2 := by
  refine q_mut (f := fun s => f_X6_doPut κ F (some m) key v s) h hw hm hF (fun c e => ?_) (fun hM => ?_)
  · unfold spPut at e
    simp only at e
    split at e
    · split at e
      · split at e
        · cases e; decide
        · cases e
      · cases e; decide
    · cases e; decide
  · obtain ⟨b1, b2⟩ := q_doPut (κ := κ) (F := F) (m := m) (V := holdV V) (σ := σ) hM hw.1 hm (by omega) key v
    exact ⟨b1, fun A' r e => ⟨WF_le (b2 A' r e).1 (Nat.le_succ _), (b2 A' r e).2⟩⟩
theorem q_remove {n : Nat} {S : aS} (h : MM V S) (hw : WS n S) (hm : κ.1 ≤ m) (hF : 1500 ≤ F) (key : Int32) :
    ∃ V', f_X6_remove κ F (some m) key (MH m V σ) = some ((resOf S (spRem S.1 key)).2.1, MH m V' σ) ∧ vth V' = (resOf S (spRem S.1 key)).1 ∧ MM V' (resOf S (spRem S.1 key)).2.2 ∧ WS (n + 1) (resOf S (spRem S.1 key)).2.2 := by
  refine q_mut (f := fun s => f_X6_doRemove κ F (some m) key s) h hw hm hF (fun c e => ?_) (fun hM => ?_)
  · unfold spRem at e
    split at e
    · split at e
      · split at e
        · cases e; decide
        · cases e
      · cases e; decide
    · cases e; decide
  · obtain ⟨b1, b2⟩ := q_doRemove (κ := κ) (F := F) (m := m) (V := holdV V) (σ := σ) hM hw.1 hm (by omega) key
    refine ⟨b1, fun A' r e => ?_⟩
    obtain ⟨c1, P', c2, c3⟩ := b2 A' r e
    exact ⟨WF_le c1 (Nat.le_succ _), vrw V, P', c2, c3⟩
theorem q_commit {n : Nat} {S : aS} (h : MM V S) (hw : WS n S) (hm : κ.1 ≤ m) (hF : 1500 ≤ F) (hn : n < 1000000) (steps : Int32) :
    ∃ V', f_X6_commit κ F (some m) steps (MH m V σ) = some ((resOf S (spCommit S.1 steps)).2.1, MH m V' σ) ∧ vth V' = (resOf S (spCommit S.1 steps)).1 ∧ MM V' (resOf S (spCommit S.1 steps)).2.2 ∧ WS (n + 1) (resOf S (spCommit S.1 steps)).2.2 := by
  refine q_mut (f := fun s => f_X6_doCommit κ F (some m) steps s) h hw hm hF (fun c e => ?_) (fun hM => ?_)
  · unfold spCommit at e
    split at e
    · split at e
      · cases e
      · cases e; decide
    · cases e; decide
  · obtain ⟨b1, b2⟩ := q_doCommit (κ := κ) (F := F) (m := m) (V := holdV V) (σ := σ) hM hw.1 hm (by omega) hn steps
    refine ⟨b1, fun A' r e => ?_⟩
    obtain ⟨c1, P', c2, c3⟩ := b2 A' r e
    exact ⟨c1, vrw V, P', c2, c3⟩
theorem q_abort {n : Nat} {S : aS} (h : MM V S) (hw : WS n S) (hm : κ.1 ≤ m) (hF : 1500 ≤ F) :
    ∃ V', f_X6_abort κ F (some m) (MH m V σ) = some ((resOf S (spAbort S.1)).2.1, MH m V' σ) ∧ vth V' = (resOf S (spAbort S.1)).1 ∧ MM V' (resOf S (spAbort S.1)).2.2 ∧ WS (n + 1) (resOf S (spAbort S.1)).2.2 := by
  refine q_mut (f := fun s => f_X6_doAbort κ F (some m) s) h hw hm hF (fun c e => ?_) (fun hM => ?_)
  · unfold spAbort at e
    split at e
    · cases e
    · cases e; decide
  · obtain ⟨b1, b2⟩ := q_doAbort (κ := κ) (F := F) (m := m) (V := holdV V) (σ := σ) hM hm (by omega)
    unfold spAbort
    cases hd : isDr S.1 with
    | false =>
      rw [if_neg (by decide)]
      exact ⟨fun c e => by cases e; exact b1 hd, fun A' r e => by cases e⟩
    | true =>
      rw [if_pos rfl]
      refine ⟨(fun c e => by cases e), fun A' r e => ?_⟩
      cases e
      obtain ⟨P', p1, p2⟩ := b2 hd
      exact ⟨WF_le (WF_drop1 hw.1.1) (Nat.le_succ _), vrw V, P', p1, p2⟩
theorem q_open {n : Nat} {S : aS} (h : MM V S) (hw : WS n S) (hm : κ.1 ≤ m) (hF : 1500 ≤ F) :
    ∃ V', f_X6_open κ F (some m) (MH m V σ) = some ((resOf S (spOpen S.1)).2.1, MH m V' σ) ∧ vth V' = (resOf S (spOpen S.1)).1 ∧ MM V' (resOf S (spOpen S.1)).2.2 ∧ WS (n + 1) (resOf S (spOpen S.1)).2.2 := by
  refine q_mut (f := fun s => f_X6_doOpen κ F (some m) s) h hw hm hF (fun c e => ?_) (fun hM => ?_)
  · unfold spOpen at e
    split at e
    · cases e
    · cases e; decide
  · obtain ⟨b1, b2⟩ := q_doOpen (κ := κ) (F := F) (m := m) (V := holdV V) (σ := σ) hM hm (by omega) hw.1.1.1
    unfold spOpen
    have hle := fcl_le S.1 4 0
    by_cases hd : fcl S.1 0 4 < 4
    · rw [if_pos hd]
      refine ⟨(fun c e => by cases e), fun A' r e => ?_⟩
      cases e
      obtain ⟨P', p1, p2⟩ := b2 hd
      exact ⟨WF_le (WF_open hw.1 _) (Nat.le_succ _), vrw V, P', p1, p2⟩
    · rw [if_neg hd]
      exact ⟨fun c e => by cases e; exact b1 (by omega), fun A' r e => by cases e⟩
theorem q_close {n : Nat} {S : aS} (h : MM V S) (hw : WS n S) (hm : κ.1 ≤ m) (hF : 1500 ≤ F) (r : Int32) :
    ∃ V', f_X6_close κ F (some m) r (MH m V σ) = some ((resOf S (spClose S.1 r)).2.1, MH m V' σ) ∧ vth V' = (resOf S (spClose S.1 r)).1 ∧ MM V' (resOf S (spClose S.1 r)).2.2 ∧ WS (n + 1) (resOf S (spClose S.1 r)).2.2 := by
  refine q_mut (f := fun s => f_X6_doClose κ F (some m) r s) h hw hm hF (fun c e => ?_) (fun hM => ?_)
  · unfold spClose at e
    split at e
    · split at e
      · cases e
      · cases e; decide
    · cases e; decide
  · obtain ⟨b1, b2⟩ := q_doClose (κ := κ) (F := F) (m := m) (V := holdV V) (σ := σ) hM hw.1 hm (by omega) r
    refine ⟨b1, fun A' x e => ?_⟩
    obtain ⟨c1, P', c2, c3⟩ := b2 A' x e
    exact ⟨WF_le c1 (Nat.le_succ _), vrw V, P', c2, c3⟩
end Q
