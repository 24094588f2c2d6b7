/-! the component: a draft's copy, a garden's copy -/
section C
variable {κ : gK} {B : Nat → Nat} {bd : Nat} {F : Nat} {σ : gS} {ω : Nat → Nat} {t g : Nat} {c : gA} {A : aG}
theorem set_bs {κ : gK} {B : Nat → Nat} {σ : gS} {ω : Nat → Nat} {u t s : Nat} {p q : Nat → Bool} (h : GSet κ B σ ω u t s p) (e : ∀ b, b < 32 → q b = p b) : GSet κ B σ ω u t s q := by
  obtain ⟨m, L, h1, h2, h3⟩ := h; exact ⟨m, L, h1, h2, fun b hb => by rw [h3 b hb, e b hb]⟩
def mem9 (D : List mE) (b : Nat) : Bool := decide (b ∈ D.map (fun x => x.2.1))
theorem mem9_snoc (D : List mE) (x : mE) (b : Nat) : mem9 (D ++ [x]) b = va_up (mem9 D) x.2.1 true b := by
  unfold mem9
  by_cases e : b = x.2.1
  · rw [e, vup_at]; simp
  · rw [vup_ne e, List.map_append]
    show decide (b ∈ D.map (fun x => x.2.1) ++ [x.2.1]) = _
    simp [e]
/-- one element of a set is read and put into another -/
theorem k_addstep {S : gS} {w : Nat → Nat} (hF : 64 ≤ F) {t1 j : Nat} (ht1 : 0 < t1) (hj : j = 2 ∨ j = 3) {it m tm s : Nat} {x : mE} {R D L : List mE} (hm0 : 0 < tm) (hm : ∀ k, k ≤ 15 → tm ≠ t1 + k) (hL : L = D ++ x :: R) (hI : IT κ S w (t1 + 12) it tm m (x :: R)) (hM : LM κ B S w tm m L) (hS : GSet κ B S w (t1 + 11) (t1 + j) s (mem9 D)) (hB : BD κ B bd S w) :
    ∃ S1 S2 w2 r, f_J36_hasNext κ F (some it) S = some (1, S) ∧ f_J37_next κ F (some it) S = some (some (B x.2.1), S1) ∧ gck S (some it) 14 = some () ∧ gcc S1 (some (B x.2.1)) 1 = some () ∧ gck S1 (some s) 12 = some () ∧ f_J27_add κ F (some s) (some (B x.2.1)) S1 = some (r, S2) ∧ ext (fun y => y = t1 + 12) 0 0 S w S1 w ∧ ext (fun y => y = t1 + 12 ∨ y = t1 + j) 3 86 S w S2 w2 ∧ IT κ S2 w2 (t1 + 12) it tm m R ∧ LM κ B S2 w2 tm m L ∧ GSet κ B S2 w2 (t1 + 11) (t1 + j) s (mem9 (D ++ [x])) ∧ BD κ B bd S2 w2 := by
  have hxm : x ∈ L := by rw [hL]; exact List.mem_append_right _ List.mem_cons_self
  have hx : x.2.1 < 32 := LM_lt hM x hxm
  have hh := p_hasNext (F := F) hI
  rw [if_neg (show ¬ x :: R = [] by simp)] at hh
  obtain ⟨S1, n1, e1, n3⟩ := p_next (F := F) hI hM hL (hm 12 (by omega)).symm
  have tn : ¬ (fun y => y = t1 + 12) tm := fun e => hm 12 (by omega) e
  have hB1 := BD_mv hB e1 (tk_0 (by omega))
  have hM1 := LM_mv hM e1 tn (tk_0 (by omega))
  have hS1 := GSet_mv hS e1 (tk_n (by omega)) (tk_n (by omega)) (tk_0 (by omega))
  obtain ⟨r, S2, w2, a1, a2, a3, a4⟩ := k_add (F := F) hB1 hF hS1 (by omega) (by omega) hx
  have tn2 : ¬ (fun y => y = t1 + j) tm := fun e => hm j (by omega) e
  refine ⟨S1, S2, w2, r, hh, n1, it_ck hI, (bd_f hB1 hx).1, a4, a1, e1, ext_mono (ext_trans (ext_mono e1 (fun _ h => Or.inl h) (Nat.le_refl _) (Nat.le_refl _)) (ext_mono a2 (fun _ h => Or.inr h) (Nat.le_refl _) (Nat.le_refl _))) (fun _ h => h) (by omega) (by omega), IT_mv n3 a2 (tk_n (by omega)) tn2, LM_mv hM1 a2 tn2 (tk_0 (by omega)), set_bs a3 (fun b _ => mem9_snoc D x b), BD_mv hB1 a2 (tk_0 (by omega))⟩
theorem k_d60 (hF : 64 ≤ F) {t1 : Nat} (ht1 : 0 < t1) {it m tm fs ls da : Nat} {y : Int32} {L : List mE} (hm0 : 0 < tm) (hm : ∀ k, k ≤ 15 → tm ≠ t1 + k) : ∀ (R D : List mE) (fuel : Nat) (S : gS) (w : Nat → Nat), L = D ++ R → R.length < fuel → IT κ S w (t1 + 12) it tm m R → LM κ B S w tm m L → GSet κ B S w (t1 + 11) (t1 + 3) ls (mem9 D) → BD κ B bd S w → oc κ S w (t1 + 10) da (.inr (6, [.ref fs, .ref ls, .int y])) →
    ∃ S' w', f_X7_copy_60 κ F fuel (some da) (some it) S = some (some da, S') ∧ ext (fun y => y = t1 + 12 ∨ y = t1 + 3) (3 * R.length) (86 * R.length) S w S' w' ∧ GSet κ B S' w' (t1 + 11) (t1 + 3) ls (mem9 L)
  | [], D, fuel, S, w, hL, hf, hI, hM, hS, hB, hd => by
    obtain ⟨f, rfl⟩ : ∃ f, fuel = f + 1 := ⟨fuel - 1, by omega⟩
    rw [List.append_nil] at hL
    subst hL
    refine ⟨S, w, ?_, ext_refl _ _ _, hS⟩
    rw [f_X7_copy_60, f_X7_copy_60b, it_ck hI, gB1_s, p_hasNext hI, gB2_s, if_pos rfl, if_pos rfl]
  | x :: R, D, fuel, S, w, hL, hf, hI, hM, hS, hB, hd => by
    obtain ⟨f, rfl⟩ : ∃ f, fuel = f + 1 := ⟨fuel - 1, by omega⟩
    obtain ⟨S1, S2, w2, r, a1, a2, a3, a4, a5, a6, e1, e2, a7, a8, a9, a10⟩ := k_addstep (F := F) hF ht1 (Or.inr rfl) hm0 hm hL hI hM hS hB
    have tn : ∀ j, j ≠ 12 → j ≠ 3 → ¬ ((fun y => y = t1 + 12 ∨ y = t1 + 3) (t1 + j)) := fun j h1 h2 e => by
      rcases e with e | e
      · have e : t1 + j = t1 + 12 := e; omega
      · have e : t1 + j = t1 + 3 := e; omega
    obtain ⟨S', w', r1, r2, r3⟩ := k_d60 hF ht1 (fs := fs) (y := y) hm0 hm R (D ++ [x]) f S2 w2 (by rw [hL, List.append_assoc]; rfl) (by simpa using hf) a7 a8 a9 a10 (oc_mv hd e2 (tn 10 (by omega) (by omega)))
    refine ⟨S', w', ?_, ext_mono (ext_trans e2 r2) (fun _ h => h) (by rw [List.length_cons]; omega) (by rw [List.length_cons]; omega), r3⟩
    rw [f_X7_copy_60, f_X7_copy_60b, a3, gB1_s, a1, gB2_s, if_neg (by decide), a3, gB1_s, a2, gB2_s, a4, gB1_s, (k_drI (oc_mv hd e1 (tk_n (by omega)))).2.2.1, gB1_s, a5, gB1_s, a6, gB2_s]
    exact r1
theorem k_d20 (hF : 64 ≤ F) {t1 : Nat} (ht1 : 0 < t1) {it m tm fs ls da : Nat} {y : Int32} {L : List mE} {l0 : Option Nat} (hm0 : 0 < tm) (hm : ∀ k, k ≤ 15 → tm ≠ t1 + k) : ∀ (R D : List mE) (fuel : Nat) (S : gS) (w : Nat → Nat), L = D ++ R → R.length < fuel → IT κ S w (t1 + 12) it tm m R → LM κ B S w tm m L → GSet κ B S w (t1 + 11) (t1 + 2) fs (mem9 D) → BD κ B bd S w → oc κ S w (t1 + 10) da (.inr (6, [.ref fs, .ref ls, .int y])) →
    ∃ S' w', f_X7_copy_20 κ F fuel l0 (some da) (some it) S = gB1 (gfR S' l0 6 1) (fun v4 => gB1 (gck S' v4 12) fun _ => gB2 (f_J27_iterator κ F v4 S') fun v6 s5 => f_X7_copy_60 κ F F (some da) v6 s5) ∧ ext (fun y => y = t1 + 12 ∨ y = t1 + 2) (3 * R.length) (86 * R.length) S w S' w' ∧ GSet κ B S' w' (t1 + 11) (t1 + 2) fs (mem9 L)
  | [], D, fuel, S, w, hL, hf, hI, hM, hS, hB, hd => by
    obtain ⟨f, rfl⟩ : ∃ f, fuel = f + 1 := ⟨fuel - 1, by omega⟩
    rw [List.append_nil] at hL
    subst hL
    refine ⟨S, w, ?_, ext_refl _ _ _, hS⟩
    rw [f_X7_copy_20, f_X7_copy_20b, it_ck hI, gB1_s, p_hasNext hI, gB2_s, if_pos rfl, if_pos rfl]
  | x :: R, D, fuel, S, w, hL, hf, hI, hM, hS, hB, hd => by
    obtain ⟨f, rfl⟩ : ∃ f, fuel = f + 1 := ⟨fuel - 1, by omega⟩
    obtain ⟨S1, S2, w2, r, a1, a2, a3, a4, a5, a6, e1, e2, a7, a8, a9, a10⟩ := k_addstep (F := F) hF ht1 (Or.inl rfl) hm0 hm hL hI hM hS hB
    have tn : ∀ j, j ≠ 12 → j ≠ 2 → ¬ ((fun y => y = t1 + 12 ∨ y = t1 + 2) (t1 + j)) := fun j h1 h2 e => by
      rcases e with e | e
      · have e : t1 + j = t1 + 12 := e; omega
      · have e : t1 + j = t1 + 2 := e; omega
    obtain ⟨S', w', r1, r2, r3⟩ := k_d20 hF ht1 (ls := ls) (y := y) (l0 := l0) hm0 hm R (D ++ [x]) f S2 w2 (by rw [hL, List.append_assoc]; rfl) (by simpa using hf) a7 a8 a9 a10 (oc_mv hd e2 (tn 10 (by omega) (by omega)))
    refine ⟨S', w', ?_, ext_mono (ext_trans e2 r2) (fun _ h => h) (by rw [List.length_cons]; omega) (by rw [List.length_cons]; omega), r3⟩
    rw [f_X7_copy_20, f_X7_copy_20b, a3, gB1_s, a1, gB2_s, if_neg (by decide), a3, gB1_s, a2, gB2_s, a4, gB1_s, (k_drI (oc_mv hd e1 (tk_n (by omega)))).2.1, gB1_s, a5, gB1_s, a6, gB2_s]
    exact r1
/-- a draft's copy -/
theorem k_dcopy (hF : 64 ≤ F) (ht : 0 < t) {t1 : Nat} (ht1 : t + 16 ≤ t1) {d : aD} {da fs ls : Nat} (hB : BD κ B bd σ ω) (hd : oc κ σ ω (t + 10) da (.inr (6, [.ref fs, .ref ls, .int (Int32.ofNat d.2.2)]))) (hfs : GSet κ B σ ω (t + 11) (t + 2) fs d.1) (hls : GSet κ B σ ω (t + 11) (t + 3) ls d.2.1) :
    ∃ σ' ω' da' fs' ls', f_X7_copy κ F (some da) σ = some (some da', σ') ∧ ext (fun y => (t1 + 1 < y ∧ y ≤ t1 + 12 ∧ y ≠ t1 + 4 ∧ y ≠ t1 + 5 ∧ y ≠ t1 + 6 ∧ y ≠ t1 + 7 ∧ y ≠ t1 + 8 ∧ y ≠ t1 + 9) ∨ (y = t + 2 ∨ y = t + 3)) 210 6000 σ ω σ' ω' ∧ oc κ σ' ω' (t1 + 10) da' (.inr (6, [.ref fs', .ref ls', .int (Int32.ofNat d.2.2)])) ∧ GSet κ B σ' ω' (t1 + 11) (t1 + 2) fs' d.1 ∧ GSet κ B σ' ω' (t1 + 11) (t1 + 3) ls' d.2.1 ∧ GSet κ B σ' ω' (t + 11) (t + 2) fs d.1 ∧ GSet κ B σ' ω' (t + 11) (t + 3) ls d.2.1 := by
  have hb : κ.1 ≤ σ.2.1 := by have h1 := hd.2.1; have h2 := hd.2.2.2; omega
  obtain ⟨p1, e1⟩ := push_new (κ := κ) (ω := ω) (t1 + 10) hb (.inr (6, g0_X7)) 3
  have i0 := k_drI (oc_mv hd e1 (fun h => h))
  obtain ⟨S2, w2, fs', ls', n1, e2, n3, n4, n5⟩ := k_dinit (F := F) (B := B) (x := Int32.ofNat d.2.2) (t := t1) (by omega) p1
  have nt : ∀ {k j : Nat}, k ≤ 15 → j ≤ 15 → ¬ (fun y => y = t1 + k) (t + j) := fun {k j} hk hj e => by have e : t + j = t1 + k := e; omega
  have nt' : ∀ {k j : Nat}, k ≤ 15 → j ≤ 15 → ¬ (fun y => y = t + k) (t1 + j) := fun {k j} hk hj e => by have e : t1 + j = t + k := e; omega
  have d2 := oc_mv (oc_mv hd e1 (fun h => h)) e2 (nt (by omega) (by omega))
  have B2 := BD_mv (BD_mv hB e1 (fun h => h)) e2 (tk_0 (by omega))
  have f2 := GSet_mv (GSet_mv hfs e1 (fun h => h) (fun h => h) (fun h => h)) e2 (nt (by omega) (by omega)) (nt (by omega) (by omega)) (tk_0 (by omega))
  have l2 := GSet_mv (GSet_mv hls e1 (fun h => h) (fun h => h) (fun h => h)) e2 (nt (by omega) (by omega)) (nt (by omega) (by omega)) (tk_0 (by omega))
  obtain ⟨m, L, m1, m2, m3⟩ := f2
  obtain ⟨it, S3, w3, r1, e3, r3, r4⟩ := p_iterator (F := F) (ti := t1 + 12) m1.1 m2
  have B3 := BD_mv B2 e3 (tk_0 (by omega))
  have d3 := oc_mv d2 e3 (tk_n (by omega))
  have n33 := oc_mv n3 e3 (nt' (by omega) (by omega))
  have n43 := GSet_mv n4 e3 (nt' (by omega) (by omega)) (nt' (by omega) (by omega)) (tk_0 (by omega))
  have n53 := GSet_mv n5 e3 (nt' (by omega) (by omega)) (nt' (by omega) (by omega)) (tk_0 (by omega))
  have l3 := GSet_mv l2 e3 (tk_n (by omega)) (tk_n (by omega)) (tk_0 (by omega))
  have m13 := oc_mv m1 e3 (tk_n (by omega))
  have hL32 : L.length ≤ 32 := by rw [LM_cnt m2 m3]; exact cnt_le _ _
  obtain ⟨S4, w4, q1, e4, q3⟩ := k_d20 (F := F) hF (t1 := t1) (l0 := some da) (by omega) (by omega) (fun k hk => by omega) L [] F S3 w3 rfl (by omega) r4 r3 (set_bs n43 (fun _ _ => rfl)) B3 n33
  have t4 : ∀ {j}, j ≤ 15 → ¬ ((fun y => y = t1 + 12 ∨ y = t1 + 2) (t + j)) := fun {j} h1 e => by
    rcases e with e | e
    · have e : t + j = t1 + 12 := e; omega
    · have e : t + j = t1 + 2 := e; omega
  have t40 : ¬ ((fun y => y = t1 + 12 ∨ y = t1 + 2) 0) := fun e => by
    rcases e with e | e
    · have e : 0 = t1 + 12 := e; omega
    · have e : 0 = t1 + 2 := e; omega
  have t4n : ∀ {j}, j ≠ 12 → j ≠ 2 → ¬ ((fun y => y = t1 + 12 ∨ y = t1 + 2) (t1 + j)) := fun {j} h1 h2 e => by
    rcases e with e | e
    · have e : t1 + j = t1 + 12 := e; omega
    · have e : t1 + j = t1 + 2 := e; omega
  have B4 := BD_mv B3 e4 t40
  have d4 := oc_mv d3 e4 (t4 (by omega))
  have n34 := oc_mv n33 e4 (t4n (by omega) (by omega))
  have n54 := GSet_mv n53 e4 (t4n (by omega) (by omega)) (t4n (by omega) (by omega)) t40
  have l4 := GSet_mv l3 e4 (t4 (by omega)) (t4 (by omega)) t40
  have F4 : GSet κ B S4 w4 (t + 11) (t + 2) fs d.1 := GSet_mv ⟨m, L, m13, r3, m3⟩ e4 (t4 (by omega)) (t4 (by omega)) t40
  obtain ⟨m', L', x1, x2, x3⟩ := l4
  obtain ⟨it', S5, w5, y1, e5, y3, y4⟩ := p_iterator (F := F) (ti := t1 + 12) x1.1 x2
  have hL32' : L'.length ≤ 32 := by rw [LM_cnt x2 x3]; exact cnt_le _ _
  have B5 := BD_mv B4 e5 (tk_0 (by omega))
  have n35 := oc_mv n34 e5 (nt' (by omega) (by omega))
  have n55 := GSet_mv n54 e5 (nt' (by omega) (by omega)) (nt' (by omega) (by omega)) (tk_0 (by omega))
  have q35 := GSet_mv q3 e5 (nt' (by omega) (by omega)) (nt' (by omega) (by omega)) (tk_0 (by omega))
  have F5 := GSet_mv F4 e5 (tk_n (by omega)) (tk_n (by omega)) (tk_0 (by omega))
  have x15 := oc_mv x1 e5 (tk_n (by omega))
  obtain ⟨S6, w6, z1, e6, z3⟩ := k_d60 (F := F) hF (t1 := t1) (by omega) (by omega) (fun k hk => by omega) L' [] F S5 w5 rfl (by omega) y4 y3 (set_bs n55 (fun _ _ => rfl)) B5 n35
  have t6 : ∀ {j}, j ≤ 15 → ¬ ((fun y => y = t1 + 12 ∨ y = t1 + 3) (t + j)) := fun {j} h1 e => by
    rcases e with e | e
    · have e : t + j = t1 + 12 := e; omega
    · have e : t + j = t1 + 3 := e; omega
  have t60 : ¬ ((fun y => y = t1 + 12 ∨ y = t1 + 3) 0) := fun e => by
    rcases e with e | e
    · have e : 0 = t1 + 12 := e; omega
    · have e : 0 = t1 + 3 := e; omega
  have t6n : ∀ {j}, j ≠ 12 → j ≠ 3 → ¬ ((fun y => y = t1 + 12 ∨ y = t1 + 3) (t1 + j)) := fun {j} h1 h2 e => by
    rcases e with e | e
    · have e : t1 + j = t1 + 12 := e; omega
    · have e : t1 + j = t1 + 3 := e; omega
  have mm : ∀ {d : Nat → Bool} {L : List mE}, (∀ b, b < 32 → (fnd b L).isSome = d b) → ∀ b, b < 32 → d b = mem9 L b := fun {d L} h b hb => by rw [← h b hb, fnd_mem]; rfl
  refine ⟨S6, w6, σ.2.1, fs', ls', ?_, ?_, oc_mv n35 e6 (t6n (by omega) (by omega)), set_bs (GSet_mv q35 e6 (t6n (by omega) (by omega)) (t6n (by omega) (by omega)) t60) (mm m3), set_bs z3 (mm x3), GSet_mv F5 e6 (t6 (by omega)) (t6 (by omega)) t60, GSet_mv ⟨m', L', x15, y3, x3⟩ e6 (t6 (by omega)) (t6 (by omega)) t60⟩
  · rw [f_X7_copy, f_X7_copy_0]
    show gB2 (some (some σ.2.1, gpush σ (.inr (6, g0_X7)) 3)) _ = _
    rw [gB2_s, i0.2.2.2, gB1_s, gsm_s, gB1_s, n1, gB2_s, (k_drI d2).2.1, gB1_s, set_ck m1, gB1_s, r1, gB2_s, q1, (k_drI d4).2.2.1, gB1_s, set_ck x1, gB1_s, y1, gB2_s, z1]
  · refine ext_mono (ext_trans (nT_le e1 (Nat.le_refl _) (Nat.le_refl _)) (ext_trans (ext_mono e2 (fun y h => Or.inl ?_) (Nat.le_refl _) (Nat.le_refl _)) (ext_trans (ext_mono e3 (fun y h => Or.inr (Or.inl h)) (Nat.le_refl _) (Nat.le_refl _)) (ext_trans (ext_mono e4 (fun y h => Or.inl ?_) (Nat.le_refl _) (Nat.le_refl _)) (ext_trans (ext_mono e5 (fun y h => Or.inr (Or.inr h)) (Nat.le_refl _) (Nat.le_refl _)) (ext_mono e6 (fun y h => Or.inl ?_) (Nat.le_refl _) (Nat.le_refl _))))))) (fun _ h => h) (by omega) (by omega)
    · have h : y = t1 + 10 := h
      omega
    · have h : y = t1 + 12 ∨ y = t1 + 2 := h
      omega
    · have h : y = t1 + 12 ∨ y = t1 + 3 := h
      omega
end C
