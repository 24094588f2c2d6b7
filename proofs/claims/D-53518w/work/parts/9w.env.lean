set_option maxRecDepth 100000
/-! THE ENVIRONMENT AT THE START, the first pure heap (written by mkstart2.py) -/
section SE
variable {b : Nat} {s : State}
theorem st_words {cS cB : ClassId} {iS : Nat → Nat} (h : (Jvm.Cond.and given_1 narrow_1).before (nAr b) s = true) (hS : s.vm.findClass "java/lang/String" = some cS) (hB : s.vm.findClass "[B" = some cB) (h0 : SlotIs s "java/lang/String" "value" "[B" (iS 0)) (h1 : SlotIs s "java/lang/String" "coder" "B" (iS 1)) (h2 : SlotIs s "java/lang/String" "hash" "I" (iS 2)) (h3 : SlotIs s "java/lang/String" "hashIsZero" "Z" (iS 3)) :
    ∀ p ∈ wdL, ∃ t hh zz, cK2 b s p.1 = adrT b s t ∧ wCell b s cS cB iS t p.2 hh zz := by
  intro p hp
  simp only [wdL, List.mem_cons, List.mem_nil_iff, or_false] at hp
  rcases hp with rfl | rfl | rfl | rfl | rfl | rfl | rfl
  · exact ⟨.string "PageGarden" 19, _, _, rfl, st_w10 h hS hB h0 h1 h2 h3⟩
  · exact ⟨.string "PageGarden" 25, _, _, rfl, st_w11 h hS hB h0 h1 h2 h3⟩
  · exact ⟨.string "PageGarden" 27, _, _, rfl, st_w12 h hS hB h0 h1 h2 h3⟩
  · exact ⟨.string "PageGarden" 29, _, _, rfl, st_w13 h hS hB h0 h1 h2 h3⟩
  · exact ⟨.string "PageGarden" 31, _, _, rfl, st_w14 h hS hB h0 h1 h2 h3⟩
  · exact ⟨.string "PageGarden" 33, _, _, rfl, st_w15 h hS hB h0 h1 h2 h3⟩
  · exact ⟨.string "PageGarden" 35, _, _, rfl, st_w16 h hS hB h0 h1 h2 h3⟩
def isW (b : Nat) (s : State) (a : Nat) : Prop := ∃ p ∈ wdL, cK2 b s p.1 = some a
def isV (b : Nat) (s : State) (i0 : Nat) (v : Nat) : Prop := ∃ a cell, isW b s a ∧ s.heap[a]? = some cell ∧ cell.slots[i0]? = some (.ref v)
/-- the number that a value is -/
def iv (v : Option Value) : Int32 := match v with
  | some (.int x) => x
  | _ => 0
/-- the first pure heap -/
noncomputable def hp0 (b L : Nat) (xs : Nat → Int32) (s : State) (iS : Nat → Nat) : gS :=
  (fun a => @ite _ (a = b) (Classical.propDecidable _) (some (.inl (9, L, .inl xs)))
    (@ite _ (isW b s a) (Classical.propDecidable _) ((s.heap[a]?).map fun cell => .inr (16, [cell.slots.getD (iS 0) .null, cell.slots.getD (iS 1) .null, cell.slots.getD (iS 2) .null, cell.slots.getD (iS 3) .null]))
    (@ite _ (isV b s (iS 0) a) (Classical.propDecidable _) ((s.heap[a]?).map fun (cell : Cell) => .inl (2, cell.slots.size.toInt32.toNatClampNeg, .inl fun j => iv cell.slots[j]?))
    (@ite _ (cK2 b s 4 = some a) (Classical.propDecidable _) (some (.inl (8, 0, rA (fun _ => none)))) none))), s.heap.size, 0)
/-- what the start's cells are -/
def stF (b L : Nat) (xs : Nat → Int32) (s : State) (cS cB c8 c9 : ClassId) (iS : Nat → Nat) : Prop :=
  (∃ kS, s.vm.classes[cS]? = some kS ∧ kS.kind = .ordinary) ∧ ArrOfT s cB .byte ∧ ArrOfT s c8 (.object "java/lang/Object") ∧ ArrOfT s c9 .int ∧
  (∃ scr, s.heap[b]? = some scr ∧ scr.cls = c9 ∧ scr.vm ≠ .unknown ∧ (∀ k, scr.vm ≠ .statics k) ∧ scr.slots.size = L ∧ ∀ j, j < L → scr.slots[j]? = some (.int (xs j))) ∧
  (∀ p ∈ wdL, ∃ t hh zz, cK2 b s p.1 = adrT b s t ∧ wCell b s cS cB iS t p.2 hh zz) ∧
  ∃ a4 ce, cK2 b s 4 = some a4 ∧ s.heap[a4]? = some ce ∧ ce.cls = c8 ∧ ce.vm ≠ .unknown ∧ (∀ k, ce.vm ≠ .statics k) ∧ ce.slots.size.toInt32 = Int32.ofNat 0
section
variable {L : Nat} {xs : Nat → Int32} {cS cB c8 c9 : ClassId} {iS : Nat → Nat}
theorem arr_kind {c : ClassId} {ty : FieldType} (h : ArrOfT s c ty) : ∃ k, s.vm.classes[c]? = some k ∧ ∃ comp, k.kind = .array comp ty := (h 0 (fun _ => .null)).2
theorem st_dis (h : stF b L xs s cS cB c8 c9 iS) : cS ≠ cB ∧ cS ≠ c8 ∧ cS ≠ c9 ∧ cB ≠ c8 ∧ cB ≠ c9 ∧ c8 ≠ c9 := by
  obtain ⟨⟨kS, g1, g2⟩, h2, h3, h4, -⟩ := h
  obtain ⟨k2, a1, p2, a2⟩ := arr_kind h2
  obtain ⟨k3, b1, p3, b2⟩ := arr_kind h3
  obtain ⟨k4, d1, p4, d2⟩ := arr_kind h4
  have key : ∀ {c c' : ClassId} {k k' : Class}, s.vm.classes[c]? = some k → s.vm.classes[c']? = some k' → k.kind ≠ k'.kind → c ≠ c' := fun e1 e2 hne e => by
    subst e
    cases e1.symm.trans e2
    exact hne rfl
  refine ⟨key g1 a1 ?_, key g1 b1 ?_, key g1 d1 ?_, key a1 b1 ?_, key a1 d1 ?_, key b1 d1 ?_⟩
  · rw [g2, a2]; intro e; cases e
  · rw [g2, b2]; intro e; cases e
  · rw [g2, d2]; intro e; cases e
  · rw [a2, b2]; intro e; cases e
  · rw [a2, d2]; intro e; cases e
  · rw [b2, d2]; intro e; cases e
theorem w_at (h : stF b L xs s cS cB c8 c9 iS) {a : Nat} (hw : isW b s a) : ∃ p ∈ wdL, ∃ hh zz v cell cv, cK2 b s p.1 = some a ∧ s.heap[a]? = some cell ∧ cell.cls = cS ∧ cell.vm ≠ .unknown ∧ (∀ k, cell.vm ≠ .statics k) ∧ cell.slots[iS 0]? = some (.ref v) ∧ cell.slots[iS 1]? = some (.int 0) ∧ cell.slots[iS 2]? = some (.int hh) ∧ cell.slots[iS 3]? = some (.int zz) ∧
    s.heap[v]? = some cv ∧ cv.cls = cB ∧ cv.vm ≠ .unknown ∧ (∀ k, cv.vm ≠ .statics k) ∧ p.2.length ≤ cv.slots.size ∧ cv.slots.size.toInt32 = Int32.ofNat p.2.length ∧ ∀ j, j < p.2.length → cv.slots[j]? = some (.int (Int32.ofNat (p.2.getD j 0))) := by
  obtain ⟨p, hp, e⟩ := hw
  obtain ⟨t, hh, zz, e1, a', v, cell, cv, e2, r⟩ := h.2.2.2.2.2.1 p hp
  rw [e1] at e
  cases e2.symm.trans e
  exact ⟨p, hp, hh, zz, v, cell, cv, by rw [e1, e2], r⟩
theorem w_len : ∀ p ∈ wdL, p.2.length < 100 := by decide
theorem getD_some {l : Array Value} {i : Nat} {v : Value} (h : l[i]? = some v) : l.getD i .null = v := by simp [h]
/-- the pure cells -/
theorem hp_b : (hp0 b L xs s iS).1 b = some (.inl (9, L, .inl xs)) := by
  unfold hp0
  dsimp only
  exact if_pos rfl
theorem hp_w (h : stF b L xs s cS cB c8 c9 iS) {a : Nat} (hw : isW b s a) : a ≠ b ∧ (hp0 b L xs s iS).1 a = (s.heap[a]?).map fun cell => .inr (16, [cell.slots.getD (iS 0) .null, cell.slots.getD (iS 1) .null, cell.slots.getD (iS 2) .null, cell.slots.getD (iS 3) .null]) := by
  have hd := st_dis h
  obtain ⟨scr, s1, s2, -⟩ := h.2.2.2.2.1
  obtain ⟨p, hp, hh, zz, v, cell, cv, e1, e2, e3, -⟩ := w_at h hw
  have hne : a ≠ b := fun e => by
    subst e
    cases e2.symm.trans s1
    exact hd.2.2.1 (e3.symm.trans s2)
  refine ⟨hne, ?_⟩
  unfold hp0
  simp only
  rw [if_neg hne, if_pos hw]
theorem v_at (h : stF b L xs s cS cB c8 c9 iS) {v : Nat} (hv : isV b s (iS 0) v) : ∃ p ∈ wdL, ∃ a cell cv, isW b s a ∧ cK2 b s p.1 = some a ∧ s.heap[a]? = some cell ∧ cell.slots[iS 0]? = some (.ref v) ∧
    s.heap[v]? = some cv ∧ cv.cls = cB ∧ cv.vm ≠ .unknown ∧ (∀ k, cv.vm ≠ .statics k) ∧ p.2.length ≤ cv.slots.size ∧ cv.slots.size.toInt32 = Int32.ofNat p.2.length ∧ ∀ j, j < p.2.length → cv.slots[j]? = some (.int (Int32.ofNat (p.2.getD j 0))) := by
  obtain ⟨a, cell, hw, e1, e2⟩ := hv
  obtain ⟨p, hp, hh, zz, v', cell', cv, f1, f2, f3, f4, f5, f6, f7, f8, f9, r⟩ := w_at h hw
  cases f2.symm.trans e1
  cases f6.symm.trans e2
  exact ⟨p, hp, a, cell, cv, hw, f1, f2, f6, r⟩
theorem hp_v (h : stF b L xs s cS cB c8 c9 iS) {a : Nat} (hv : isV b s (iS 0) a) : a ≠ b ∧ ¬ isW b s a ∧ (hp0 b L xs s iS).1 a = (s.heap[a]?).map fun (cell : Cell) => .inl (2, cell.slots.size.toInt32.toNatClampNeg, .inl fun j => iv cell.slots[j]?) := by
  have hd := st_dis h
  obtain ⟨scr, s1, s2, -⟩ := h.2.2.2.2.1
  obtain ⟨p, hp, a', cell, cv, g1, g2, g3, g4, e2, e3, -⟩ := v_at h hv
  have hne : a ≠ b := fun e => by
    subst e
    cases e2.symm.trans s1
    exact hd.2.2.2.2.1 (e3.symm.trans s2)
  have hnw : ¬ isW b s a := fun hw => by
    obtain ⟨p, hp, hh, zz, v, cell, cv, f1, f2, f3, -⟩ := w_at h hw
    cases e2.symm.trans f2
    exact hd.1 (f3.symm.trans e3)
  refine ⟨hne, hnw, ?_⟩
  unfold hp0
  simp only
  rw [if_neg hne, if_neg hnw, if_pos hv]
theorem hp_4 (h : stF b L xs s cS cB c8 c9 iS) {a : Nat} (h4 : cK2 b s 4 = some a) : a ≠ b ∧ ¬ isW b s a ∧ ¬ isV b s (iS 0) a ∧ (hp0 b L xs s iS).1 a = some (.inl (8, 0, rA (fun _ => none))) := by
  have hd := st_dis h
  obtain ⟨scr, s1, s2, -⟩ := h.2.2.2.2.1
  obtain ⟨a4, ce, x1, e2, e3, -⟩ := h.2.2.2.2.2.2
  have q := Option.some.inj (x1.symm.trans h4)
  rw [q] at e2
  have hne : a ≠ b := fun e => by
    subst e
    cases e2.symm.trans s1
    exact hd.2.2.2.2.2 (e3.symm.trans s2)
  have hnw : ¬ isW b s a := fun hw => by
    obtain ⟨p, hp, hh, zz, v, cell, cv, f1, f2, f3, -⟩ := w_at h hw
    cases e2.symm.trans f2
    exact hd.2.1 (f3.symm.trans e3)
  have hnv : ¬ isV b s (iS 0) a := fun hv => by
    obtain ⟨p, hp, a', cell, cv, g1, g2, g3, g4, f2, f3, -⟩ := v_at h hv
    cases e2.symm.trans f2
    exact hd.2.2.2.1 (f3.symm.trans e3)
  refine ⟨hne, hnw, hnv, ?_⟩
  unfold hp0
  simp only
  rw [if_neg hne, if_neg hnw, if_neg hnv, if_pos h4]
theorem hp_none {a : Nat} (h1 : a ≠ b) (h2 : ¬ isW b s a) (h3 : ¬ isV b s (iS 0) a) (h4 : cK2 b s 4 ≠ some a) : (hp0 b L xs s iS).1 a = none := by
  unfold hp0
  simp only
  rw [if_neg h1, if_neg h2, if_neg h3, if_neg h4]
theorem w_sz {n : Nat} (h : n < 100) : (Int32.ofNat n).toNatClampNeg = n := (i3_ok (by omega)).2
theorem lt_of {a : Nat} {cell : Cell} (h : s.heap[a]? = some cell) : a < s.heap.size := (Array.getElem?_eq_some_iff.mp h).1
/-- the pure heap tells the machine's -/
theorem st_rel {l : Launch} {D : va_G} {dA : Nat → ClassId} {κ2 : Nat → Option Nat} (h : stF b L xs s cS cB c8 c9 iS) (hD : D.1 16 = cS) (hD2 : D.2 16 = iS) (h2 : dA 2 = cB) (h8 : dA 8 = c8) (h9 : dA 9 = c9) : gRel (l, s, b, D, dA, (s.heap.size, κ2)) (hp0 b L xs s iS) s.heap := by
  refine ⟨rfl, fun _ _ => rfl, Nat.le_refl _, fun a c hc => ?_⟩
  have vmok : ∀ {cell : Cell}, s.heap[a]? = some cell → cell.vm ≠ .unknown → (∀ k, cell.vm ≠ .statics k) → g_vm s.heap.size a cell := fun e h1 h2 => ⟨h1, h2, fun hle => absurd (lt_of e) (by omega)⟩
  by_cases c1 : a = b
  · subst c1
    rw [hp_b] at hc
    cases hc
    obtain ⟨scr, s1, s2, s3, s4, s5, s6⟩ := h.2.2.2.2.1
    refine ⟨scr, s1, vmok s1 s3 s4, ?_⟩
    exact ⟨s2.trans h9.symm, Nat.le_of_eq s5.symm, by rw [s5], fun j hj => s6 j hj, fun hle => absurd (lt_of s1) (Nat.not_lt.mpr hle)⟩
  · by_cases c2 : isW b s a
    · rw [(hp_w h c2).2] at hc
      obtain ⟨p, hp, hh, zz, v, cell, cv, f1, f2, f3, f4, f5, f6, f7, f8, f9, -⟩ := w_at h c2
      rw [f2] at hc
      cases hc
      refine ⟨cell, f2, vmok f2 f4 f5, Or.inl ⟨_, gcl16, f3.trans hD.symm, fun k hk => ?_⟩⟩
      show cell.slots[D.2 16 k]? = _
      rw [hD2]
      match k, hk with
      | 0, _ => rw [f6]; exact congrArg some (getD_some f6).symm
      | 1, _ => rw [f7]; exact congrArg some (getD_some f7).symm
      | 2, _ => rw [f8]; exact congrArg some (getD_some f8).symm
      | 3, _ => rw [f9]; exact congrArg some (getD_some f9).symm
    · by_cases c3 : isV b s (iS 0) a
      · rw [(hp_v h c3).2.2] at hc
        obtain ⟨p, hp, a', cell, cv, g1, g2, g3, g4, f2, f3, f4, f5, f6, f7, f8⟩ := v_at h c3
        rw [f2] at hc
        cases hc
        have hl := w_len p hp
        have hsz : cv.slots.size.toInt32.toNatClampNeg = p.2.length := by rw [f7, w_sz hl]
        refine ⟨cv, f2, vmok f2 f4 f5, f3.trans h2.symm, ?_, ?_, fun j hj => ?_, fun hle => absurd (lt_of f2) (Nat.not_lt.mpr hle)⟩
        · show cv.slots.size.toInt32.toNatClampNeg ≤ _
          rw [hsz]; exact f6
        · show _ = Int32.ofNat cv.slots.size.toInt32.toNatClampNeg
          rw [hsz]; exact f7
        · have hj : j < cv.slots.size.toInt32.toNatClampNeg := hj
          rw [hsz] at hj
          show _ = some (Value.int (iv cv.slots[j]?))
          rw [f8 j hj]
          rfl
      · by_cases c4 : cK2 b s 4 = some a
        · rw [(hp_4 h c4).2.2.2] at hc
          cases hc
          obtain ⟨a4, ce, x1, e2, e3, e4, e5, e6⟩ := h.2.2.2.2.2.2
          cases x1.symm.trans c4
          exact ⟨ce, e2, vmok e2 e4 e5, e3.trans h8.symm, Nat.zero_le _, e6, fun j hj => absurd hj (Nat.not_lt_zero _), fun hle => absurd (lt_of e2) (Nat.not_lt.mpr hle)⟩
        · rw [hp_none c1 c2 c3 c4] at hc
          cases hc
theorem st_KQ (h : stF b L xs s cS cB c8 c9 iS) : KQ (s.heap.size, cK2 b s) (hp0 b L xs s iS) (fun _ => 0) := by
  refine ⟨?_, fun p hp => ?_⟩
  · obtain ⟨a4, ce, x1, e2, -⟩ := h.2.2.2.2.2.2
    exact ⟨a4, fun _ => none, x1, (hp_4 h x1).2.2.2, lt_of e2, rfl⟩
  · obtain ⟨t, hh, zz, e1, a, v, cell, cv, e2, f2, f3, f4, f5, f6, f7, f8, f9, g2, g3, g4, g5, g6, g7, g8⟩ := h.2.2.2.2.2.1 p hp
    have hw : isW b s a := ⟨p, hp, e1.trans e2⟩
    have hv : isV b s (iS 0) v := ⟨a, cell, hw, f2, f6⟩
    have hl := w_len p hp
    have hsz : cv.slots.size.toInt32.toNatClampNeg = p.2.length := by rw [g7, w_sz hl]
    refine ⟨a, v, hh, zz, (fun j => iv cv.slots[j]?), e1.trans e2, ⟨?_, lt_of f2, rfl⟩, ⟨?_, lt_of g2, rfl⟩, fun k hk => ?_⟩
    · rw [(hp_w h hw).2, f2]
      show some (Sum.inr (16, [cell.slots.getD (iS 0) .null, cell.slots.getD (iS 1) .null, cell.slots.getD (iS 2) .null, cell.slots.getD (iS 3) .null])) = _
      rw [getD_some f6, getD_some f7, getD_some f8, getD_some f9]
    · rw [(hp_v h hv).2.2, g2, ← hsz]
      rfl
    · show (iv cv.slots[k]?) = _
      rw [g8 k hk]
      rfl
end
/-- the environment -/
theorem st_env {l : Launch} (hflags : l.flags = flags0) (ht : ∀ w ∈ lw_tbl, w.before (nAr b) s = true) (h : (Jvm.Cond.and given_1 narrow_1).before (nAr b) s = true) {L : Nat} {xs : Nat → Int32} (hX : va_X b L xs s s.heap) :
    ∃ (D : va_G) (dA : Nat → ClassId) (iS : Nat → Nat), gEnv (l, s, b, D, dA, (s.heap.size, cK2 b s)) ∧ gXF (l, s, b, D, dA, (s.heap.size, cK2 b s)) ∧ gRel (l, s, b, D, dA, (s.heap.size, cK2 b s)) (hp0 b L xs s iS) s.heap ∧ KQ (s.heap.size, cK2 b s) (hp0 b L xs s iS) (fun _ => 0) ∧ KS (s.heap.size, cK2 b s) ∧ KT (s.heap.size, cK2 b s) := by
  obtain ⟨dC, dI, hC⟩ := st_classes ht
  obtain ⟨scr, s1, s2, s3, s4, s5⟩ := hX
  have l1 := flat_of_before _ (n_split h).2.2.2.2 siteWord_1_1 (by decide +kernel)
  have l2 := flat_of_before _ (n_split h).2.2.2.2 siteWord_1_2 (by decide +kernel)
  obtain ⟨c100, n0, l1⟩ := Cond.lambdaSite_spec (args := nAr b) (first := s) (o := none) (s := s) (idx := []) (x := lcs) (pc := 12) (index := 393) (σ := lsh0) l1
  obtain ⟨c101, n1, l2⟩ := Cond.lambdaSite_spec (args := nAr b) (first := s) (o := none) (s := s) (idx := []) (x := lcs) (pc := 18) (index := 397) (σ := lsh1) l2
  have e0 : n0 = none := by
    obtain ⟨_, _, _, _, _, _, -, -, -, -, -, -, -, -, h9⟩ := State.lambdaAt?_spec l1
    rcases h9 with ⟨_, _, -, -, h9, -⟩ | ⟨-, h9, -⟩
    · cases h9
    · exact h9
  have e1 : n1 = none := by
    obtain ⟨_, _, _, _, _, _, -, -, -, -, -, -, -, -, h9⟩ := State.lambdaAt?_spec l2
    rcases h9 with ⟨_, _, -, -, h9, -⟩ | ⟨-, h9, -⟩
    · cases h9
    · exact h9
  subst e0
  subst e1
  obtain ⟨dA, hA, a9, a100, a101, aB, aO⟩ := st_arrays ht scr.cls c100 c101
  have hK : va_K (dC, dI) gCl (gTys dA) s := ⟨hC, hA⟩
  have kS := hC 16 _ gcl16
  have nA : ∀ a : Nat, a < s.heap.size → ¬ (s.heap.size ≤ a) := fun a ha => Nat.not_le.mpr ha
  have h9 : ArrOfT s scr.cls .int := fun n z => ⟨fun k e => (by cases e), s2.2⟩
  -- the empty array
  obtain ⟨a4, c8, ce, p1, p2, p3, p4, p5, p6⟩ := adrT_ex (np_ee h)
  obtain ⟨a4', q1, ce', q2, q3, q4, q5, q6, -⟩ := va_Tof (N := 0) (f := fun _ => .null) (A := fun _ => False) (by omega) (np_ea h) (va_eqt (np_el h)) (fun j hj => absurd hj (Nat.not_lt_zero _)) (fun _ _ h => h)
  cases p2.symm.trans q1
  cases p3.symm.trans q2
  have hF : stF b L xs s (dC 16) (dA 2) (dA 8) (dA 9) (dI 16) := by
    refine ⟨kS.2.2, (hA 2 _ rfl).1, (hA 8 _ rfl).1, by rw [a9]; exact h9, ⟨scr, s1, a9.symm, s3, s2.1, s4, s5⟩, st_words h kS.2.1 aB (kS.1 0 (by decide)) (kS.1 1 (by decide)) (kS.1 2 (by decide)) (kS.1 3 (by decide)), a4, ce, p1, p3, ?_, q4, (fun k e => by rw [e] at p5; cases p5), q6⟩
    rw [p6]
    exact Option.some.inj (p4.symm.trans aO)
  -- the three states
  obtain ⟨w0, cw0, ew0, x01, x02, x03, x04, x05, x06⟩ := adrT_ex (np_ex0 h)
  obtain ⟨w1, cw1, ew1, x11, x12, x13, x14, x15, x16⟩ := adrT_ex (np_ex1 h)
  obtain ⟨w2, cw2, ew2, x21, x22, x23, x24, x25, x26⟩ := adrT_ex (np_ex2 h)
  obtain ⟨w3, cw3, ew3, x31, x32, x33, x34, x35, x36⟩ := adrT_ex (np_pr h)
  have ne : ∀ {t t' : Term} {a a' : Nat}, t.eval (nAr b) s none [] s = some (.ref a) → t'.eval (nAr b) s none [] s = some (.ref a') → (Cond.not (Cond.eq t t')).before (nAr b) s = true → a ≠ a' := fun e e' hn q => by
    subst q
    simp [Cond.before, Cond.holds, Cond.value, e, e'] at hn
  have n01 : w0 ≠ w1 := ne x02 x12 (np_ne01 h)
  have n02 : w0 ≠ w2 := ne x02 x22 (np_ne02 h)
  have n12 : w1 ≠ w2 := ne x12 x22 (np_ne12 h)
  have k0 : cK2 b s 0 = some w0 := x01
  have k1 : cK2 b s 1 = some w1 := x11
  have k2 : cK2 b s 2 = some w2 := x21
  have k3 : cK2 b s 3 = some w3 := x31
  have k4 : cK2 b s 4 = some a4 := p1
  have hKS : KS (s.heap.size, cK2 b s) := by
    refine ⟨?_, ?_, ?_⟩
    · show cK2 b s 0 ≠ cK2 b s 1
      rw [k0, k1]; exact fun e => n01 (Option.some.inj e)
    · show cK2 b s 0 ≠ cK2 b s 2
      rw [k0, k2]; exact fun e => n02 (Option.some.inj e)
    · show cK2 b s 1 ≠ cK2 b s 2
      rw [k1, k2]; exact fun e => n12 (Option.some.inj e)
  refine ⟨(dC, dI), dA, dI 16, ?_, by show ArrOfT s (dA 9) .int; rw [a9]; exact h9, st_rel hF rfl rfl rfl rfl rfl, st_KQ hF, hKS, fun i h1 h2 => ?_⟩
  · refine ⟨ht, hK, (show (!l.flags.contains noTraceFlag) = false by rw [hflags]; decide), rfl, ?_, ?_, ?_, ?_, ?_, ?_, ?_, ?_, ?_, ?_⟩
    · intro q hq
      simp only [gZrL, List.mem_cons, List.mem_nil_iff, or_false] at hq
      rcases hq with rfl | rfl | rfl | rfl | rfl
      · show va_Z "PageGarden$State" "WILD" "LPageGarden$State;" (va_rf (cK2 b s 0)) _ _ _
        rw [k0]
        exact va_Zof (ht _ q280) (ht _ (lw_all_tbl q116)) x02 nA
      · show va_Z "PageGarden$State" "USED" "LPageGarden$State;" (va_rf (cK2 b s 1)) _ _ _
        rw [k1]
        exact va_Zof (ht _ q313) (ht _ (lw_all_tbl q116)) x12 nA
      · show va_Z "PageGarden$State" "FREED" "LPageGarden$State;" (va_rf (cK2 b s 2)) _ _ _
        rw [k2]
        exact va_Zof (ht _ q1316) (ht _ (lw_all_tbl q116)) x22 nA
      · show va_Z "java/util/HashSet" "PRESENT" "Ljava/lang/Object;" (va_rf (cK2 b s 3)) _ _ _
        rw [k3]
        exact va_Zof (ht _ q1957) (ht _ (lw_all_tbl q146)) x32 nA
      · show va_Z "java/util/ArrayList" "DEFAULTCAPACITY_EMPTY_ELEMENTDATA" "[Ljava/lang/Object;" (va_rf (cK2 b s 4)) _ _ _
        rw [k4]
        exact va_Zof (ht _ q1258) (ht _ (lw_all_tbl q142)) p2 nA
    · intro q hq
      simp only [gZiL, List.mem_cons, List.mem_nil_iff, or_false] at hq
      subst hq
      exact va_Zof (ht _ q375) (ht _ (lw_all_tbl q119)) (va_eqi (np_cs h)) nA
    · intro q hq
      obtain ⟨a, e1, e2⟩ := st_str h q hq
      refine ⟨a, e1, vk_R.of (A := nAr b) (ht _ ?_) e2⟩
      simp only [gStrL, List.mem_cons, List.mem_nil_iff, or_false] at hq
      rcases hq with rfl | rfl | rfl | rfl | rfl | rfl | rfl | rfl | rfl | rfl | rfl | rfl | rfl | rfl | rfl | rfl | rfl | rfl | rfl | rfl | rfl | rfl | rfl | rfl | rfl | rfl | rfl | rfl
      · exact q1397
      · exact q1399
      · exact q1400
      · exact q1401
      · exact q1402
      · exact q1403
      · exact q1404
      · exact q2588
      · exact q2583
      · exact q2597
      · exact q2612
      · exact q2677
      · exact q2678
      · exact q2687
      · exact q2062
      · exact q2047
      · exact q2119
      · exact q2014
      · exact q2305
      · exact q2000
      · exact q2009
      · exact q2100
      · exact q2228
      · exact q2242
      · exact q2280
      · exact q2300
      · exact q2316
      · exact q1331
    · intro q hq
      simp only [gObjL, List.mem_cons, List.mem_nil_iff, or_false] at hq
      rcases hq with rfl | rfl | rfl
      · exact ⟨w0, k0, va_Oof (np_ex0 h) x02 nA⟩
      · exact ⟨w1, k1, va_Oof (np_ex1 h) x12 nA⟩
      · exact ⟨w2, k2, va_Oof (np_ex2 h) x22 nA⟩
    · intro q hq
      simp only [gNcL, List.mem_cons, List.mem_nil_iff, or_false] at hq
      rcases hq with rfl | rfl | rfl | rfl | rfl | rfl
      · exact va_Nc.of (np_nc0 h)
      · exact va_Nc.of (np_nc1 h)
      · exact va_Nc.of (np_nc2 h)
      · exact va_Nc.of (np_nc3 h)
      · exact va_Nc.of (np_nc4 h)
      · exact va_Nc.of (np_nc5 h)
    · intro i j hi hj he
      have he : cK2 b s i = cK2 b s j := he
      simp only [gNeL, List.mem_cons, List.mem_nil_iff, or_false] at hi hj
      rcases hi with rfl | rfl | rfl <;> rcases hj with rfl | rfl | rfl
      · rfl
      · exact absurd he hKS.1
      · exact absurd he hKS.2.1
      · exact absurd he.symm hKS.1
      · rfl
      · exact absurd he hKS.2.2
      · exact absurd he.symm hKS.2.1
      · exact absurd he.symm hKS.2.2
      · rfl
    · exact vx_Zqof (ht _ q455) (ht _ (lw_all_tbl q123)) (np_us h) nA
    · exact vx_Zqof (ht _ q457) (ht _ (lw_all_tbl q123)) (np_ss h) nA
    · intro q hq
      simp only [gOfL, List.mem_cons, List.mem_nil_iff, or_false] at hq
      rcases hq with rfl | rfl | rfl
      · exact ⟨w0, k0, vk_OFof x02 (va_eqt (np_or0 h)) nA⟩
      · exact ⟨w1, k1, vk_OFof x12 (va_eqt (np_or1 h)) nA⟩
      · exact ⟨w2, k2, vk_OFof x22 (va_eqt (np_or2 h)) nA⟩
    · refine ⟨?_, ?_⟩
      · show s.lambdaAt? lcs 12 393 lsh0 = some (dA 100, none)
        rw [a100]; exact l1
      · show s.lambdaAt? lcs 18 397 lsh1 = some (dA 101, none)
        rw [a101]; exact l2
  · show (cK2 b s i).isSome = true
    have : ∃ q ∈ gStrL, q.2.2.2 = i := by
      have key : ∀ k, k < 28 → ∃ q ∈ gStrL, q.2.2.2 = 10 + k := by decide
      obtain ⟨q, hq, e⟩ := key (i - 10) (by omega)
      exact ⟨q, hq, by omega⟩
    obtain ⟨q, hq, rfl⟩ := this
    obtain ⟨a, e1, -⟩ := st_str h q hq
    rw [e1]; rfl
end SE
