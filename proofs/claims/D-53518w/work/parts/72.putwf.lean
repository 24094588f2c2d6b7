/-! leaves stay sorted; put and remove keep the invariants -/
theorem lkp_none {l : List (Int32 × Int32)} {key : Int32} : lkp l key = none ↔ ∀ q ∈ l, q.1 ≠ key := by
  unfold lkp
  rw [List.findIdx?_eq_none_iff]
  constructor
  · intro h q hq e
    have := h q hq
    simp [e] at this
  · intro h q hq
    have := h q hq
    simp [this]
theorem lkp_some {l : List (Int32 × Int32)} {key : Int32} {i : Nat} (h : lkp l key = some i) : i < l.length ∧ (l.getD i (0, 0)).1 = key := by
  have h1 := lkp_lt h
  refine ⟨h1, ?_⟩
  unfold lkp at h
  rw [List.findIdx?_eq_some_iff_getElem] at h
  obtain ⟨h2, h3, h4⟩ := h
  rw [getD_get h2]
  exact eq_of_beq h3
theorem pof_cons (a : Int32 × Int32) (l : List (Int32 × Int32)) (key : Int32) : pof (a :: l) key = if key ≤ a.1 then 0 else pof l key + 1 := by
  unfold pof
  rw [List.findIdx_cons]
  by_cases h : key ≤ a.1
  · rw [if_pos h]; simp [h]
  · rw [if_neg h]; simp [h]
theorem pof_le (l : List (Int32 × Int32)) (key : Int32) : pof l key ≤ l.length := List.findIdx_le_length
theorem srt_ins {l : List (Int32 × Int32)} {key v : Int32} (h : srt l) (hn : ∀ q ∈ l, q.1 ≠ key) : srt (ins l (pof l key) (key, v)) := by
  unfold srt at h ⊢
  induction l with
  | nil => exact List.pairwise_cons.mpr ⟨(fun a ha => by cases ha), List.Pairwise.nil⟩
  | cons a l ih =>
    rw [List.pairwise_cons] at h
    rw [pof_cons]
    by_cases c : key ≤ a.1
    · rw [if_pos c]
      have hlt : key < a.1 := Int32.lt_of_le_of_ne c (fun e => hn a List.mem_cons_self e.symm)
      refine List.pairwise_cons.mpr ⟨fun q hq => ?_, List.pairwise_cons.mpr h⟩
      rcases List.mem_cons.mp hq with rfl | hq
      · exact hlt
      · exact Int32.lt_trans hlt (h.1 q hq)
    · rw [if_neg c]
      refine List.pairwise_cons.mpr ⟨fun q hq => ?_, ih h.2 (fun q hq => hn q (List.mem_cons_of_mem _ hq))⟩
      have hm : q = (key, v) ∨ q ∈ l := by
        have hq : q ∈ ins l (pof l key) (key, v) := hq
        unfold ins at hq
        rcases List.mem_append.mp hq with hq | hq
        · exact Or.inr (List.mem_of_mem_take hq)
        · rcases List.mem_cons.mp hq with hq | hq
          · exact Or.inl hq
          · exact Or.inr (List.mem_of_mem_drop hq)
      rcases hm with rfl | hm
      · exact Int32.not_le.mp c
      · exact h.1 q hm
theorem srt_set {l : List (Int32 × Int32)} {key v : Int32} {i : Nat} (h : srt l) (hi : i < l.length) (hk : (l.getD i (0, 0)).1 = key) : srt (l.set i (key, v)) := by
  have e : (l.set i (key, v)).map Prod.fst = l.map Prod.fst := by
    rw [List.map_set]
    have : key = (l.map Prod.fst)[i]'(by rw [List.length_map]; exact hi) := by rw [List.getElem_map, ← getD_get (x := (0, 0)) hi]; exact hk.symm
    show (l.map Prod.fst).set i key = _
    conv => lhs; rw [this]
    exact List.set_getElem_self _
  unfold srt at h ⊢
  have h2 : (l.map Prod.fst).Pairwise (fun a b => a < b) := List.pairwise_map.mpr h
  rw [← e] at h2
  exact List.pairwise_map.mp h2
theorem withL_ok {l : List (Int32 × Int32)} {key v : Int32} (h : okL l) : srt (withL l key v) ∧ withL l key v ≠ [] ∧ (withL l key v).length = l.length + (if (lkp l key).isNone then 1 else 0) := by
  unfold withL
  cases hk : lkp l key with
  | none =>
    refine ⟨srt_ins h.2.2 (lkp_none.mp hk), fun e => ?_, ?_⟩
    · have := ins_len (x := (key, v)) (pof_le l key)
      rw [show ins l (pof l key) (key, v) = [] from e] at this
      cases this
    · exact ins_len (pof_le l key)
  | some i =>
    obtain ⟨h1, h2⟩ := lkp_some hk
    refine ⟨srt_set h.2.2 h1 h2, fun e => ?_, ?_⟩
    · have : (l.set i (key, v)).length = 0 := by rw [show l.set i (key, v) = [] from e]; rfl
      rw [List.length_set] at this
      omega
    · show (l.set i (key, v)).length = l.length + 0
      rw [List.length_set]
      rfl
theorem b01 {a b c : Bool} {n : Nat} (hn : n ≤ 32) (h : ¬ Int32.ofNat n < ((if a then (0 : Int32) else 1) + (if b then (0 : Int32) else 1)) + (if c then (1 : Int32) else 0)) : (if a then 0 else 1) + (if b then 0 else 1) + (if c then 1 else 0) ≤ n := by
  have e : ((if a then (0 : Int32) else 1) + (if b then (0 : Int32) else 1)) + (if c then (1 : Int32) else 0) = Int32.ofNat ((if a then 0 else 1) + (if b then 0 else 1) + (if c then 1 else 0)) := by
    cases a <;> cases b <;> cases c <;> rfl
  have hl : (if a then 0 else 1) + (if b then 0 else 1) + (if c then 1 else 0) ≤ 3 := by cases a <;> cases b <;> cases c <;> decide
  rw [e, i3_lt (by omega) (by omega)] at h
  omega
theorem many_le (A : aG) : many A ≤ 32 := cnt_le _ _
theorem dirL_lt {n : Nat} {A : aG} (h : WF n A) {d : aD} (hd : aDr A = some d) : (dirL A (drD A)).length ≤ 6 ∧ ∀ b ∈ dirL A (drD A), b < 32 ∧ okL (leafL A b) ∧ aSt A b = 1 ∧ aPg A b = .inl (leafL A b) := by
  obtain ⟨D, a1, a2, a3, a4, a5, a6, a7, a8, a9, a10, a11⟩ := WF_d h hd
  rw [a4]
  refine ⟨a6, fun b hb => ?_⟩
  obtain ⟨b1, ⟨l, b2, b3⟩, b4, b5⟩ := a8 b hb
  rw [leafL_of b2]
  exact ⟨b1, b3, b4, b2⟩
theorem plc_congr {A A' : aG} {D : List Nat} {key : Int32} (h : ∀ b ∈ D, leafL A' b = leafL A b) : ∀ n, n ≤ D.length → plc A' D key n = plc A D key n
  | 0, _ => rfl
  | n + 1, hn => by
    have e : fkey A' (D.getD n 0) = fkey A (D.getD n 0) := by unfold fkey; rw [h _ (getD_mem (by omega))]
    rw [plc, plc, plc_congr h n (by omega), e]
theorem leafL_congr {A A' : aG} {b : Nat} (h : A'.1 b = A.1 b) : leafL A' b = leafL A b := by unfold leafL aPg; rw [h]
theorem WF_put {n : Nat} {A : aG} (h : WF n A) (hd : isDr A = true) {key v : Int32} (h1 : bedsFor A (dirL A (drD A)) key ≠ -1000) (h2 : ¬ Int32.ofNat (many A) < bedsFor A (dirL A (drD A)) key) : WF n (putA A key v) := by
  have hm32 := many_le A
  have hm : (if anyNew A then 0 else 1) ≤ many A := by
    cases hD : dirL A (drD A) with
    | nil =>
      rw [hD] at h2
      have := b01 (a := anyNew A) (b := false) (c := false) hm32 (by simpa [bedsFor] using h2)
      simp at this ⊢
      omega
    | cons x D =>
      rw [hD] at h1 h2
      unfold bedsFor at h1 h2
      simp only at h1 h2
      split at h1
      · exact absurd rfl h1
      · rename_i hc
        rw [if_neg hc] at h2
        have := b01 hm32 h2
        omega
  obtain ⟨w1, w2, w3, w4, w5, w6, w7⟩ := WF_own h hd (fun e => by rw [e] at hm; simp at hm; omega)
  obtain ⟨d0, hd0⟩ := isDr_d hd
  obtain ⟨d, hdB⟩ := isDr_d w2
  have hlf : ∀ b ∈ dirL A (drD A), leafL (ownDirA A) b = leafL A b := fun b hb => leafL_congr (w5 b hb).1
  have hDl := dirL_lt h hd0
  unfold putA
  simp only
  have hnext : ∀ {B : aG}, 0 < many B → next B = some (nxt B) := fun h => nxt_of h
  rw [w4]
  cases hD : dirL A (drD A) with
  | nil =>
    rw [if_pos rfl]
    rw [hD] at h2 w4
    have hb := b01 (a := anyNew A) (b := false) (c := false) hm32 (by simpa [bedsFor] using h2)
    have hpos : 0 < many (ownDirA A) := by simp at hb; omega
    have := (WF_insL (j := 0) (l := [(key, v)]) w1 hdB w3 (hnext hpos) (by rw [w4]; decide) ⟨by simp, by simp, by unfold srt; exact List.pairwise_singleton _ _⟩).1
    rw [w4] at this
    exact this
  | cons x D =>
    rw [if_neg (by simp)]
    have e1 := plc_congr (key := key) hlf (dirL A (drD A)).length (Nat.le_refl _)
    rw [hD] at h1 h2 w4 e1 hlf hDl
    rw [e1]
    have hpl := plc_lt (A := A) (D := x :: D) (key := key) (x :: D).length (by simp)
    have hmem : (x :: D).getD (plc A (x :: D) key (x :: D).length) 0 ∈ x :: D := getD_mem hpl
    unfold bedsFor at h1 h2
    simp only at h1 h2
    rw [hlf _ hmem]
    have hnw := (w5 _ (by rw [hD]; exact hmem)).2
    obtain ⟨g1, g2, g3, g4⟩ := hDl.2 _ hmem
    obtain ⟨k1, k2, k3⟩ := withL_ok (key := key) (v := v) g2
    generalize hplc : plc A (x :: D) key (x :: D).length = place at *
    generalize hlfe : (x :: D).getD place 0 = lf at *
    generalize hL : leafL A lf = l at *
    split at h1
    · exact absurd rfl h1
    · rename_i hc
      rw [if_neg hc] at h2
      have hb := b01 hm32 h2
      have hpl2 : place < (dirL (ownDirA A) (drD (ownDirA A))).length := by rw [w4]; exact hpl
      have hlf2 : (dirL (ownDirA A) (drD (ownDirA A))).getD place 0 = lf := by rw [w4]; exact hlfe
      have hnz : isNew (ownDirA A) lf = false → 0 < many (ownDirA A) := fun e => by
        rw [hnw] at e
        rw [e] at hb
        simp at hb
        omega
      by_cases c5 : (withL l key v).length ≤ 4
      · rw [if_pos c5]
        obtain ⟨c, q⟩ := WF_change (l := withL l key v) w1 hdB w3 hpl2 ⟨k2, c5, k1⟩ (by rw [hlf2]; exact hnz)
        exact q.1
      · rw [if_neg c5]
        have hsp : (lkp l key).isNone = true ∧ l.length = 4 := by
          have := g2.2.1
          cases hk : (lkp l key).isNone with
          | true => rw [hk] at k3; simp at k3; exact ⟨rfl, by omega⟩
          | false => rw [hk] at k3; simp at k3; omega
        rw [hsp.1] at hc hb k3
        simp only [hsp.2, decide_true, Bool.true_and, decide_eq_true_eq] at hc
        simp [hsp.2] at hb
        have k3 : (withL l key v).length = 5 := by rw [k3, hsp.2]; rfl
        have ok3 : okL ((withL l key v).take 3) := ⟨(fun e => by have := congrArg List.length e; rw [List.length_take, k3] at this; cases this), by rw [List.length_take]; omega, List.Pairwise.sublist (List.take_sublist _ _) k1⟩
        have okd : okL ((withL l key v).drop 3) := ⟨(fun e => by have := congrArg List.length e; rw [List.length_drop, k3] at this; cases this), by rw [List.length_drop]; omega, List.Pairwise.sublist (List.drop_sublist _ _) k1⟩
        obtain ⟨c, q1, q2, q3, q4, q5, q6, q7, q8, q9, q10, q11, q12, q13⟩ := WF_change (l := (withL l key v).take 3) w1 hdB w3 hpl2 ok3 (by rw [hlf2]; exact hnz)
        rw [hlf2, hnw] at q12
        have hpos : 0 < many (changeA (ownDirA A) place ((withL l key v).take 3)) := by omega
        obtain ⟨dC, hdC⟩ := isDr_d q2
        have hlen : (dirL (changeA (ownDirA A) place ((withL l key v).take 3)) (drD (changeA (ownDirA A) place ((withL l key v).take 3)))).length ≤ 5 := by
          rw [q4, q5, List.length_set, w4]
          have := hDl.1
          simp only [List.length_cons] at this hc ⊢
          omega
        exact (WF_insL (j := place + 1) q1 hdC q3 (hnext hpos) hlen okd).1
theorem WF_rem {n : Nat} {A : aG} (h : WF n A) (hd : isDr A = true) {key : Int32} (h1 : valBy A (drD A) key ≠ -1000) (h2 : ¬ many A < remBeds A key) : WF n (remA A key) := by
  have hm : (if anyNew A then 0 else 1) ≤ many A := by
    unfold remBeds at h2
    simp only at h2
    omega
  obtain ⟨w1, w2, w3, w4, w5, w6, w7⟩ := WF_own h hd (fun e => by rw [e] at hm; simp at hm; omega)
  obtain ⟨d0, hd0⟩ := isDr_d hd
  obtain ⟨d, hdB⟩ := isDr_d w2
  have hlf : ∀ b ∈ dirL A (drD A), leafL (ownDirA A) b = leafL A b := fun b hb => leafL_congr (w5 b hb).1
  have hDl := dirL_lt h hd0
  have hne : dirL A (drD A) ≠ [] := fun e => h1 (by unfold valBy; rw [e])
  unfold remA
  simp only
  have e1 := plc_congr (key := key) hlf (dirL A (drD A)).length (Nat.le_refl _)
  unfold remBeds at h2
  simp only at h2
  have w4' := w4
  rw [w4]
  rw [e1]
  have hpl := plc_lt (A := A) (D := dirL A (drD A)) (key := key) (dirL A (drD A)).length (by
    cases hx : dirL A (drD A) with
    | nil => exact absurd hx hne
    | cons _ _ => simp)
  have hmem : (dirL A (drD A)).getD (plc A (dirL A (drD A)) key (dirL A (drD A)).length) 0 ∈ dirL A (drD A) := getD_mem hpl
  obtain ⟨g1, g2, g3, g4⟩ := hDl.2 _ hmem
  have hnw := (w5 _ hmem).2
  rw [hlf _ hmem]
  generalize plc A (dirL A (drD A)) key (dirL A (drD A)).length = place at *
  by_cases c : 1 < (leafL A ((dirL A (drD A)).getD place 0)).length
  · rw [if_pos c]
    have hnz : isNew (ownDirA A) ((dirL A (drD A)).getD place 0) = false → 0 < many (ownDirA A) := fun e => by
      rw [hnw] at e
      rw [e] at h2
      have c2 : ¬ ((leafL A ((dirL A (drD A)).getD place 0)).length = 1 ∨ false = true) := by
        rintro (e | e)
        · omega
        · cases e
      rw [if_neg c2] at h2
      omega
    obtain ⟨cc, q⟩ := WF_change (place := place) (l := (leafL A ((dirL A (drD A)).getD place 0)).eraseIdx (pof (leafL A ((dirL A (drD A)).getD place 0)) key)) w1 hdB w3 (by rw [w4]; exact hpl) ⟨(fun e => by
        have := congrArg List.length e
        rw [List.length_eraseIdx, List.length_nil] at this
        split at this <;> omega), by
        have := g2.2.1
        rw [List.length_eraseIdx]
        split <;> omega, List.Pairwise.sublist (List.eraseIdx_sublist _ _) g2.2.2⟩ (by rw [w4]; exact hnz)
    exact q.1
  · rw [if_neg c]
    have := WF_drop (place := place) w1 hdB w3 (by rw [w4]; exact hpl)
    rw [w4] at this
    exact this
