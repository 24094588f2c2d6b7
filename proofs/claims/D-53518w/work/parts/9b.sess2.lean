set_option maxRecDepth 100000
/-! the component's session: calls that change it -/
section C
variable {κ : gK} {B : Nat → Nat} {bd : Nat} {F : Nat} {σ : gS} {ω : Nat → Nat} {o : Nat} {S : aS}
theorem gT16 {t : Nat} (ht : 16 ≤ t) : ∀ y, gT t y → cT y := fun y h => by have := h.1; exact ⟨by omega, by omega, by omega⟩
theorem cT0 : ¬ cT 0 := fun h => h.1 rfl
theorem fresh_above (ω : Nat → Nat) (σ : gS) (m : Nat) : ∃ t1, m ≤ t1 ∧ ∀ a, a < σ.2.1 → ω a < t1 := by
  have h : ∀ n, ∃ M, m ≤ M ∧ ∀ a, a < n → ω a < M := fun n => by
    induction n with
    | zero => exact ⟨m, Nat.le_refl _, fun a ha => absurd ha (Nat.not_lt_zero _)⟩
    | succ n ih =>
      obtain ⟨M, hm, hM⟩ := ih
      refine ⟨M + ω n + 1, by omega, fun a ha => ?_⟩
      by_cases e : a = n
      · rw [e]; omega
      · have := hM a (by omega); omega
  exact h σ.2.1
theorem TS_le {t t' : Nat} {L : List sE} (h : TS t L) (ht : t ≤ t') : TS t' L := ⟨fun x hx => ⟨(h.1 x hx).1, by have := (h.1 x hx).2; omega⟩, h.2⟩
theorem TS_tail {t : Nat} {L : List sE} (h : TS t L) : TS t L.tail := ⟨fun x hx => h.1 x (List.mem_of_mem_tail hx), h.2.tail⟩
theorem TS_snoc {t t1 : Nat} {L : List sE} (h : TS t L) (ht : 16 ≤ t) (h1 : t + 16 ≤ t1) (x : Nat × gA) : TS t1 (L ++ [(t, x)]) := by
  refine ⟨fun y hy => ?_, List.pairwise_append.mpr ⟨h.2, List.pairwise_singleton _ _, fun a ha b hb => ?_⟩⟩
  · rcases List.mem_append.mp hy with hy | hy
    · have := h.1 y hy; exact ⟨this.1, by omega⟩
    · rw [List.mem_singleton.mp hy]; exact ⟨ht, h1⟩
  · rw [List.mem_singleton.mp hb]; exact (h.1 a ha).2
theorem SL_cell {i : Nat} : ∀ {L : List sE} {LA : List aG}, SL κ B bd σ ω L LA → i < (L.map (fun x => x.2.1)).length → ∃ fs, σ.1 ((L.map (fun x => x.2.1)).getD i 0) = some (.inr (7, fs)) := by
  induction i with
  | zero =>
    intro L LA h hi
    match L, LA, h with
    | x :: L, A :: LA, h => exact ⟨_, h.1.1.1⟩
  | succ i ih =>
    intro L LA h hi
    match L, LA, h with
    | x :: L, A :: LA, h => exact ih h.2 (by simpa using hi)
/-- the session's facts ride -/
theorem KM_mv {T : Nat → Prop} {n m : Nat} {σ1 : gS} {ω1 : Nat → Nat} (h : KM κ B bd σ ω o S) (e : ext T n m σ ω σ1 ω1) (hT : ∀ x, T x → x = 5 ∨ x = 6 ∨ (7 ≤ x ∧ x ≤ 15)) : KM κ B bd σ1 ω1 o S := by
  obtain ⟨t, g, c, sv, cm, fc, L, h1, h2, h3, h4, h5, h6, h7, h8, h9, h10⟩ := h
  have no : ∀ x, (x < 5 ∨ 16 ≤ x) → ¬ T x := fun x hx hx2 => by have := hT x hx2; omega
  exact ⟨t, g, c, sv, cm, fc, L, oc_mv h1 e (no _ (by omega)), h2, GR_mv h3 e (fun y hy => no y (by have := hy.1; omega)) (no _ (by omega)), AL_mv h4 e (no _ (by omega)) (no _ (by omega)) (no _ (by omega)), SL_mv e (no _ (by omega)) h5 (fun x hx y hy => no y (by have := (h6.1 x hx).1; have := hy.1; omega)), h6, oc_mv h7 e (no _ (by omega)), h8, BD_mv h9 e (no _ (by omega)), KQ_mv h10 e (no _ (by omega))⟩
theorem KM_b (h : KM κ B bd σ ω o S) : κ.1 ≤ σ.2.1 := by
  obtain ⟨t, g, c, sv, cm, fc, L, h1, _⟩ := h
  have := h1.2.1; have := h1.2.2.2; omega
/-- another garden takes the present one's place -/
theorem k_become {t g : Nat} {c : gA} {sv cm : Nat} {fc : Nat → Int32} {L : List sE} (h1 : oc κ σ ω 1 o (.inr (0, [.ref g, .ref sv, .ref cm, .int (Int32.ofNat S.2.2.length)]))) (h2 : 16 ≤ t) (h3 : GR κ B bd σ ω t g c S.1) (h4 : AL κ σ ω sv (L.map (fun x => x.2.1))) (h5 : SL κ B bd σ ω L S.2.1) (h6 : TS t L) (h7 : oc κ σ ω 4 cm (.inl (2, 150, .inl fc))) (h8 : ∀ i, i < S.2.2.length → fc i = S.2.2.getD i 0) (h9 : BD κ B bd σ ω) (h10 : KQ κ σ ω)
    (hl : S.2.1.length ≤ 4) {t1 g1 : Nat} {c1 : gA} {A1 : aG} (ht1 : t + 16 ≤ t1) (hg1 : GR κ B bd σ ω t1 g1 c1 A1) (r : Int32) :
    ∃ σ' ω', f_X1_become κ F (some o) (some g1) r σ = some (r, σ') ∧ ext (fun x => x = 1 ∨ x = 2 ∨ x = 3) 1 10 σ ω σ' ω' ∧ KM κ B bd σ' ω' o (A1, pushL S.2.1 S.1, S.2.2) := by
  have r0 : gfR σ (some o) 0 0 = some (some g) := by rw [gfR_u, h1.1]; rfl
  have r1 : gfR σ (some o) 0 1 = some (some sv) := by rw [gfR_u, h1.1]; rfl
  obtain ⟨z1, z2⟩ := al_size (F := F) h4
  have hLl := SL_len h5
  rw [List.length_map] at z1
  -- the last part
  have fin : ∀ {σ2 : gS} {L2 : List sE} {LA2 : List aG}, L2.length < 10 → ext (fun x => x = 2 ∨ x = 3) 0 0 σ ω σ2 ω → AL κ σ2 ω sv (L2.map (fun x => x.2.1)) → SL κ B bd σ2 ω L2 LA2 → TS t L2 → LA2 ++ [S.1] = pushL S.2.1 S.1 → ∃ σ' ω', f_X1_become_23 κ F (some o) (some g1) r σ2 = some (r, σ') ∧ ext (fun x => x = 1 ∨ x = 2 ∨ x = 3) 1 10 σ ω σ' ω' ∧ KM κ B bd σ' ω' o (A1, pushL S.2.1 S.1, S.2.2) := by
    intro σ2 L2 LA2 hl2 e2 a2 s2 ts2 hp
    have n2 : ∀ x, x ≠ 2 → x ≠ 3 → ¬ ((fun x => x = 2 ∨ x = 3) x) := fun x h1 h2 h => h.elim h1 h2
    have ng : ∀ {u : Nat}, 16 ≤ u → ∀ y, gU u y → ¬ ((fun x => x = 2 ∨ x = 3) y) := fun hu y hy => n2 y (by have := hy.1; omega) (by have := hy.1; omega)
    have h12 := oc_mv h1 e2 (n2 1 (by omega) (by omega))
    have h32 := GR_mv h3 e2 (ng h2) (n2 0 (by omega) (by omega))
    have hg2 := GR_mv hg1 e2 (ng (by omega)) (n2 0 (by omega) (by omega))
    have r02 : gfR σ2 (some o) 0 0 = some (some g) := by rw [gfR_u, h12.1]; rfl
    have r12 : gfR σ2 (some o) 0 1 = some (some sv) := by rw [gfR_u, h12.1]; rfl
    obtain ⟨S3, w3, q1, q2, q3⟩ := al_add (F := F) a2 (by rw [List.length_map]; exact hl2) h32.1.1 h32.1.2.1 (by rw [h32.1.2.2.1]; omega)
    have h13 := oc_mv h12 q2 (n2 1 (by omega) (by omega))
    have s4 := oc_pf (v := .ref g1) h13 (k := 0) (show 0 < 4 by decide)
    have e4 := oc_ext_up h13 (.inr (0, [.ref g1, .ref sv, .ref cm, .int (Int32.ofNat S.2.2.length)])) (fun x => x = 1) rfl
    have h14 := oc_up h13 (.inr (0, [.ref g1, .ref sv, .ref cm, .int (Int32.ofNat S.2.2.length)]))
    have s4' : gpf κ S3 (some o) 0 0 (.ref g1) = some (gup S3 o (.inr (0, [.ref g1, .ref sv, .ref cm, .int (Int32.ofNat S.2.2.length)]))) := s4
    generalize gup S3 o (.inr (0, [.ref g1, .ref sv, .ref cm, .int (Int32.ofNat S.2.2.length)])) = S4 at s4' e4 h14
    have nn : ∀ {x y : Nat}, x ≠ y → ¬ ((fun z => z = y) x) := fun h e => h e
    have ng4 : ∀ {u : Nat}, 16 ≤ u → ∀ y, gU u y → ¬ ((fun x => x = 1) y) := fun hu y hy e => by have := hy.1; have e : y = 1 := e; omega
    refine ⟨S4, w3, ?_, ext_mono (ext_trans (ext_mono e2 (fun x h => Or.inr h) (Nat.le_refl _) (Nat.le_refl _)) (ext_trans (ext_mono q2 (fun x h => Or.inr h) (Nat.le_refl _) (Nat.le_refl _)) (ext_mono e4 (fun x h => Or.inl h) (Nat.le_refl _) (Nat.le_refl _)))) (fun _ h => h) (by omega) (by omega),
      t1, g1, c1, sv, cm, fc, L2 ++ [(t, g, c)], h14, by omega, GR_mv (GR_mv hg2 q2 (ng (by omega)) (n2 0 (by omega) (by omega))) e4 (ng4 (by omega)) (nn (by omega)), ?_, ?_, TS_snoc ts2 h2 ht1 (g, c), oc_mv (oc_mv (oc_mv h7 e2 (n2 _ (by omega) (by omega))) q2 (n2 _ (by omega) (by omega))) e4 (nn (by omega)), h8, BD_mv (BD_mv (BD_mv h9 e2 (n2 _ (by omega) (by omega))) q2 (n2 _ (by omega) (by omega))) e4 (nn (by omega)), KQ_mv (KQ_mv (KQ_mv h10 e2 (n2 _ (by omega) (by omega))) q2 (n2 _ (by omega) (by omega))) e4 (nn (by omega))⟩
    · rw [f_X1_become_23, r12, gB1_s, r02, gB1_s, (al_size (F := F) a2).2, gB1_s, q1, gB2_s]
      show gB1 (gpf κ S3 (some o) 0 0 (.ref g1)) _ = _
      rw [s4', gB1_s]
    · rw [List.map_append]
      exact AL_mv q3 e4 (nn (by omega)) (nn (by omega)) (nn (by omega))
    · rw [← hp]
      have m1 := SL_mv q2 (n2 _ (by omega) (by omega)) s2 (fun x hx => ng (ts2.1 x hx).1)
      have m2 := SL_mv e4 (nn (by omega)) m1 (fun x hx => ng4 (ts2.1 x hx).1)
      exact SL_snoc (x := (t, g, c)) (GR_mv (GR_mv h32 q2 (ng h2) (n2 0 (by omega) (by omega))) e4 (ng4 h2) (nn (by omega))) m2
  rw [f_X1_become, f_X1_become_0, r1, gB1_s, z2, gB1_s, z1, gB2_s]
  by_cases h44 : L.length = 4
  · rw [if_pos (by rw [h44]; rfl), r1, gB1_s, z2, gB1_s]
    obtain ⟨S2, q1, q2, q3, q4⟩ := al_rem (F := F) h4 (by rw [List.length_map]; omega) (k := 0) (by rw [List.length_map]; omega) (fun i hi => SL_cell h5 hi)
    obtain ⟨fs, hfs⟩ := SL_cell (i := 0) h5 (by rw [List.length_map]; omega)
    have hLA : S.2.1.length = 4 := by omega
    have n2 : ∀ x, x ≠ 2 → x ≠ 3 → ¬ ((fun x => x = 2 ∨ x = 3) x) := fun x h1 h2 h => h.elim h1 h2
    have hcc : gcc S2 (some ((L.map (fun x => x.2.1)).getD 0 0)) 7 = some () := by
      have s2 := SL_mv q2 (n2 _ (by omega) (by omega)) h5 (fun x hx y hy => n2 y (by have := hy.1; have := (h6.1 x hx).1; omega) (by have := hy.1; have := (h6.1 x hx).1; omega))
      obtain ⟨fs2, hfs2⟩ := SL_cell (i := 0) s2 (by rw [List.length_map]; omega)
      exact gcc_eq hfs2
    rw [show (0 : Int32) = Int32.ofNat 0 from rfl, q1, gB2_s, hcc, gB1_s]
    refine fin (L2 := L.tail) (LA2 := S.2.1.tail) (by rw [List.length_tail]; omega) q2 ?_ (SL_tail (SL_mv q2 (n2 _ (by omega) (by omega)) h5 (fun x hx y hy => n2 y (by have := hy.1; have := (h6.1 x hx).1; omega) (by have := hy.1; have := (h6.1 x hx).1; omega)))) (TS_tail h6) (by unfold pushL; rw [if_pos hLA])
    rw [List.map_tail]
    exact q3 rfl
  · rw [if_neg (by rw [show (4 : Int32) = Int32.ofNat 4 from rfl, i3_inj (by omega) (by omega)]; exact h44)]
    exact fin (by omega) (ext_mono (ext_refl _ _ _) (fun _ h => h) (Nat.le_refl _) (Nat.le_refl _)) h4 h5 h6 (by unfold pushL; rw [if_neg (by omega)])
theorem k_mut {n : Nat} (hK : KS κ) (hF : 64 ≤ F) (h : KM κ B bd σ ω o S) (hw : WS n S) {sp : (aG × Int32) ⊕ Int32} {e1 e2 : String} {f : Option Nat → gS → Option ((Int32 ⊕ String) × gS)} (hf : ∀ (t g : Nat) (c : gA) (σ : gS) (ω : Nat → Nat), 0 < t → GR κ B bd σ ω t g c S.1 → BD κ B bd σ ω → ∃ σ' ω' c', f (some g) σ = some (outE sp e1 e2, σ') ∧ ext (gT t) 64 1020 σ ω σ' ω' ∧ GR κ B bd σ' ω' t g c' (gOf S.1 sp)) :
    ∃ σ' ω', gB1 (gfR σ (some o) 0 0) (fun v1 => gB1 (gck σ v1 7) fun _ => gB2 (f_X3_copy κ F v1 σ) fun v3 s2 => gB1 (gck s2 v3 7) fun _ => gB3 (f v3 s2) fun v6 s5 => gB1 (gck s5 (some o) 0) fun _ => gB2 (f_X1_become κ F (some o) v3 v6 s5) fun v9 s8 => some (((.inl v9 : Int32 ⊕ String), s8) : (Int32 ⊕ String) × gS)) = some (outE sp e1 e2, σ') ∧ ext cT 400 12000 σ ω σ' ω' ∧ KM κ B bd σ' ω' o (resOf S sp).2.2 := by
  obtain ⟨t, g, c, sv, cm, fc, L, h1, h2, h3, h4, h5, h6, h7, h8, h9, h10⟩ := h
  obtain ⟨t1, ht1, hX⟩ := fresh_above ω σ (t + 16)
  obtain ⟨g1, S1, w1, c1, a1, e1', a3, a4⟩ := k_copy (F := F) hK hF (by omega) ht1 h3 h9 hX
  have n1 : ∀ x, x ≠ t + 2 → x ≠ t + 3 → ¬ ((fun x => x = t + 2 ∨ x = t + 3) x) := fun x h1 h2 h => h.elim h1 h2
  have h91 := BD_mv h9 e1' (n1 _ (by omega) (by omega))
  have ng1 : ∀ x ∈ L, ∀ y, gU x.1 y → ¬ ((fun x => x = t + 2 ∨ x = t + 3) y) := fun x hx y hy => n1 y (by have := hy.2; have := (h6.1 x hx).2; omega) (by have := hy.2; have := (h6.1 x hx).2; omega)
  obtain ⟨S2, w2, c2, b1, e2', b3⟩ := hf t1 g1 c1 S1 w1 (by omega) a4 h91
  have n2 : ∀ x, (x < 16 ∨ x < t + 16) → ¬ gT t1 x := fun x hx e => by have := e.1; omega
  have r0 : gfR σ (some o) 0 0 = some (some g) := by rw [gfR_u, h1.1]; rfl
  have h12 := oc_mv (oc_mv h1 e1' (n1 _ (by omega) (by omega))) e2' (n2 _ (by omega))
  have h32 := GR_mv a3 e2' (fun y hy => n2 y (by have := hy.2; omega)) (n2 _ (by omega))
  have h42 := AL_mv (AL_mv h4 e1' (n1 _ (by omega) (by omega)) (n1 _ (by omega) (by omega)) (n1 _ (by omega) (by omega))) e2' (n2 _ (by omega)) (n2 _ (by omega)) (n2 _ (by omega))
  have h52 := SL_mv e2' (n2 _ (by omega)) (SL_mv e1' (n1 _ (by omega) (by omega)) h5 ng1) (fun x hx y hy => n2 y (by have := hy.2; have := (h6.1 x hx).2; omega))
  have h72 := oc_mv (oc_mv h7 e1' (n1 _ (by omega) (by omega))) e2' (n2 _ (by omega))
  have h92 := BD_mv h91 e2' (n2 _ (by omega))
  have h102 := KQ_mv (KQ_mv h10 e1' (n1 _ (by omega) (by omega))) e2' (n2 _ (by omega))
  have E : ext cT 384 10020 σ ω S2 w2 := ext_mono (ext_trans (ext_mono e1' (fun x hx => by have hx : x = t + 2 ∨ x = t + 3 := hx; exact ⟨by omega, by omega, by omega⟩) (Nat.le_refl _) (Nat.le_refl _)) (ext_mono e2' (gT16 (by omega)) (Nat.le_refl _) (Nat.le_refl _))) (fun _ h => h) (by omega) (by omega)
  rw [r0, gB1_s, k_ck h3, gB1_s, a1, gB2_s, k_ck a4, gB1_s, b1]
  cases sp with
  | inr k =>
    have hx : ∃ C, outE (.inr k) e1 e2 = .inr C := by
      unfold outE
      simp only
      split
      · exact ⟨_, rfl⟩
      · exact ⟨_, rfl⟩
    obtain ⟨C, hC⟩ := hx
    rw [hC, gB3_r]
    exact ⟨S2, w2, rfl, ext_mono E (fun _ h => h) (by omega) (by omega), t, g, c, sv, cm, fc, L, h12, h2, h32, h42, h52, h6, h72, h8, h92, h102⟩
  | inl q =>
    have hC : outE (.inl q) e1 e2 = .inl q.2 := rfl
    rw [hC, gB3_l]
    have hck : gck S2 (some o) 0 = some () := by rw [gck_u, h12.1]; rfl
    obtain ⟨S3, w3, d1, d2, d3⟩ := k_become (F := F) h12 h2 h32 h42 h52 h6 h72 h8 h92 h102 hw.2.1 ht1 b3 q.2
    rw [hck, gB1_s, d1, gB2_s]
    exact ⟨S3, w3, rfl, ext_mono (ext_trans E (ext_mono d2 (fun x hx => by have hx : x = 1 ∨ x = 2 ∨ x = 3 := hx; exact ⟨by omega, by omega, by omega⟩) (Nat.le_refl _) (Nat.le_refl _))) (fun _ h => h) (by omega) (by omega), d3⟩
end C
