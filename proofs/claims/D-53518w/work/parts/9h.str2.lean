set_option maxRecDepth 100000
/-! the component's words: strings, hashes, equality, the words' numbers -/
section C
variable {κ : gK} {F : Nat} {σ : gS} {ω : Nat → Nat}
theorem gct_2 {a n : Nat} {f : Nat → Int32} {t : Nat} (h : oc κ σ ω t a (.inl (2, n, .inl f))) : gct σ (some a) 2 = some () := by
  show (match σ.1 a with | some (.inl q) => if q.1 = 2 then some () else none | _ => none) = some ()
  rw [h.1]
  rfl
theorem t_toString {sb cap : Nat} {w : List Nat} (h : SB κ σ ω sb cap w) : ∃ a v σ' ω', f_J13_toString κ F (some sb) σ = some (some a, σ') ∧ ext nT 2 (4 + w.length) σ ω σ' ω' ∧ STR κ σ' ω' a v 0 0 w := by
  obtain ⟨v, z, f, h1, h2, h3, h4, h5, h6⟩ := h
  have hb : κ.1 ≤ σ.2.1 := by have h1' := h1.2.1; have h2' := h1.2.2.2; omega
  obtain ⟨p1, e1⟩ := push_new (κ := κ) (ω := ω) 11 hb (.inr (16, g0_J4)) 4
  have hb1 := ext_21 (κ := κ) e1 hb
  have h11 := oc_mv h1 e1 (fun h => h)
  have h21 := oc_mv h2 e1 (fun h => h)
  generalize hS1 : gpush σ (.inr (16, g0_J4)) 4 = S1 at p1 e1 hb1 h11 h21
  obtain ⟨b1, b2, b3, b4⟩ := sb_f h11
  have s2 := oc_pf (v := .int 0) p1 (show 1 < g0_J4.length by decide)
  have E2 := fresh_gup (d := .inr (16, g0_J4)) e1 (Nat.le_refl _)
  have p2 := oc_up p1 (.inr (16, g0_J4))
  have s2' : gpf κ S1 (some σ.2.1) 16 1 (.int 0) = some (gup S1 σ.2.1 (.inr (16, g0_J4))) := s2
  have z2 := oc_ext_up p1 (.inr (16, g0_J4)) (fun y => y = 11) rfl
  have h12 := oc_mv h11 z2 (by decide)
  have h22 := oc_mv h21 z2 (by decide)
  have hb2 := ext_21 (κ := κ) z2 hb1
  generalize gup S1 σ.2.1 (.inr (16, g0_J4)) = S2 at s2' E2 p2 h12 h22 hb2
  -- the bytes
  have gl : gal S2 (some v) = some (Int32.ofNat cap) := by rw [gal_u, h22.1, gal9_s _ _ _ (by decide)]
  have cp : ∃ S3 w3 a2 f3, f_J15_copyOfRange κ F (some v) (0 : Int32) (Int32.ofNat w.length) S2 = some (some a2, S3) ∧ ext nT 1 w.length S2 (own ω σ.2.1 11) S3 w3 ∧ oc κ S3 w3 12 a2 (.inl (2, w.length, .inl f3)) ∧ ∀ k, k < w.length → f3 k = Int32.ofNat (w.getD k 0) := by
    by_cases e : w.length = cap
    · have hcl := gcln_eq (κ := κ) (t := 2) h22.1 h22.2.2.2 (fun i hi => h5 i hi)
      obtain ⟨p3, e3⟩ := push_new (κ := κ) (ω := own ω σ.2.1 11) 12 hb2 (.inl (2, cap, .inl f)) cap
      refine ⟨_, _, _, f, ?_, by rw [e]; exact e3, by rw [e]; exact p3, h6⟩
      rw [f_J15_copyOfRange, f_J15_copyOfRange_0, if_pos rfl, gl, gB1_s, if_pos (by rw [e]), hcl, gB2_s, gct_2 p3, gB1_s]
    · obtain ⟨p3, e3⟩ := push_new (κ := κ) (ω := own ω σ.2.1 11) 12 hb2 (.inl (2, gz 2 w.length)) w.length
      have p3 : oc κ _ _ 12 S2.2.1 (.inl (2, w.length, .inl (fun _ => (0 : Int32)))) := p3
      have h23 := oc_mv h22 e3 (fun h => h)
      have n1 : gna S2 2 (Int32.ofNat w.length) = some (some S2.2.1, gpush S2 (.inl (2, gz 2 w.length)) w.length) := gna_s S2 (t := 2) (by omega)
      generalize gpush S2 (.inl (2, gz 2 w.length)) w.length = S3 at n1 p3 e3 h23
      have n3 := gcpI_eq (κ := κ) (t := 2) (sp := 0) (dp := 0) (n := Int32.ofNat w.length) h23.1 p3.1 h23.2.2.2 p3.2.2.2 (by decide) (by decide) (i3_ok (by omega)).1 (by rw [(i3_ok (by omega)).2]; show 0 + w.length ≤ cap; omega) (by rw [(i3_ok (by omega)).2]; show 0 + w.length ≤ w.length; omega) (fun i hi => by
        rw [(i3_ok (by omega)).2] at hi
        rw [show (0 : Int32).toNatClampNeg = 0 from rfl, Nat.zero_add]
        exact h5 i (by omega))
      rw [(i3_ok (show w.length < 2147483648 by omega)).2, show (0 : Int32).toNatClampNeg = 0 from rfl] at n3
      have gl3 : gal S3 (some v) = some (Int32.ofNat cap) := by rw [gal_u, h23.1, gal9_s _ _ _ (by decide)]
      refine ⟨_, _, _, va_cpy f (fun _ => 0) 0 0 w.length, ?_, fresh_gup e3 (Nat.le_refl _), oc_up p3 _, fun k hk => ?_⟩
      · have z0 : ∀ n : Nat, Int32.ofNat n - (0 : Int32) = Int32.ofNat n := fun n => i3_sub (a := n) (b := 0) (Nat.zero_le _)
        rw [f_J15_copyOfRange, f_J15_copyOfRange_0, if_pos rfl, gl, gB1_s, if_neg (by rw [i3_inj (by omega) (by omega)]; exact e), f_J15_copyOfRange_10, f_J15_copyOfRangeByte, f_J15_copyOfRangeByte_0, f_J15_checkLength, f_J15_checkLength_0, if_pos (by rw [show (0 : Int32) = Int32.ofNat 0 from rfl, i3_le (by omega) (by omega)]; omega), gB2_s, z0, n1, gB2_s, gl3, gB1_s, z0, if_pos (by rw [i3_lt (by omega) (by omega)]; omega), n3, gB1_s, gB2_s]
      · unfold va_cpy
        rw [if_pos ⟨Nat.zero_le _, by omega⟩, Nat.zero_add, Nat.sub_zero]
        exact h6 k hk
  obtain ⟨S3, w3, a2, f3, c1, c2, c3, c4⟩ := cp
  have p3 := oc_mv p2 c2 (fun h => h)
  have s4 := oc_pf (v := .ref a2) p3 (show 0 < g0_J4.length by decide)
  have s4' : gpf κ S3 (some σ.2.1) 16 0 (.ref a2) = some (gup S3 σ.2.1 (.inr (16, [.ref a2, .int 0, .int 0, .int 0]))) := s4
  have E3 : ext nT 2 (4 + w.length) σ ω S3 w3 := ext_mono (ext_trans E2 c2) (fun _ h => h) (by omega) (by omega)
  have z4 := oc_ext_up p3 (.inr (16, [.ref a2, .int 0, .int 0, .int 0])) (fun y => y = 11) rfl
  refine ⟨σ.2.1, a2, _, w3, ?_, fresh_gup E3 (Nat.le_refl _), ⟨f3, oc_up p3 (.inr (16, [.ref a2, .int 0, .int 0, .int 0])), oc_mv c3 z4 (by decide), c4⟩⟩
  obtain ⟨d1, d2, d3, d4⟩ := sb_f h12
  rw [f_J13_toString, f_J13_toString_0]
  show gB2 (some (some σ.2.1, gpush σ (.inr (16, g0_J4)) 4)) _ = _
  rw [gB2_s, hS1, gsm_s, gB1_s, f_J4_init, f_J4_init_0, gsm_s, gB1_s, f_J4_init_2, f_J4_init_2_0, gsm_s, gB1_s, b1, gB1_s, f_J12_getValue, f_J12_getValue_0, b2, gB1_s, gB2_s, b1, gB1_s, f_J13_length, f_J13_length_0, b1, gB1_s, f_J12_length, f_J12_length_0, b4, gB1_s, gB2_s, gB2_s, b1, gB1_s, sb_latin h11, gB2_s, if_neg (by decide), show gok .byte (0 : Int32) = some () from by decide, gB1_s, s2', gB1_s, c1, gB2_s]
  show gB2 (gB2 (gB1 (gpf κ S3 (some σ.2.1) 16 0 (.ref a2)) _) _) _ = _
  rw [s4', gB1_s, f_J4_init_2_97, gB2_s, gB2_s]
/-! the hash -/
theorem hsW_snoc : ∀ (w : List Nat) (h : Int32) (c : Nat), hsW h (w ++ [c]) = (31 : Int32) * hsW h w + Int32.ofNat c
  | [], h, c => rfl
  | d :: w, h, c => by rw [List.cons_append, hsW, hsW, hsW_snoc w]
theorem hsW_take {w : List Nat} {k : Nat} (hk : k < w.length) : hsW 0 (w.take (k + 1)) = (31 : Int32) * hsW 0 (w.take k) + Int32.ofNat (w.getD k 0) := by
  rw [List.take_add_one, List.getElem?_eq_getElem hk, List.getD_eq_getElem?_getD, List.getElem?_eq_getElem hk]
  exact hsW_snoc _ _ _
theorem b255 {c : Nat} (hc : c < 128) : Int32.ofNat c &&& 255 = Int32.ofNat c := by
  apply Int32.toBitVec_inj.mp
  rw [Int32.toBitVec_and]
  apply BitVec.eq_of_toNat_eq
  rw [BitVec.toNat_and]
  have h1 : (Int32.ofNat c).toBitVec.toNat = c := by
    show (BitVec.ofNat 32 c).toNat = c
    rw [BitVec.toNat_ofNat]
    exact Nat.mod_eq_of_lt (by omega)
  rw [h1]
  show c &&& 255 = c
  rw [show (255 : Nat) = 2 ^ 8 - 1 from rfl, Nat.and_two_pow_sub_one_eq_mod]
  exact Nat.mod_eq_of_lt (by omega)
theorem t_hs8 {v u : Nat} {w : List Nat} {f : Nat → Int32} (h : oc κ σ ω u v (.inl (2, w.length, .inl f))) (hf : ∀ k, k < w.length → f k = Int32.ofNat (w.getD k 0)) (hw : ∀ k, k < w.length → w.getD k 0 < 128) (hl : w.length < 1000) : ∀ (d fuel k : Nat), k + d = w.length → d < fuel → f_J6_signedHashCode_8 κ F fuel (hsW 0 (w.take k)) (some v) (Int32.ofNat w.length) (Int32.ofNat k) σ = some (hsW 0 w, σ)
  | 0, fuel, k, hk, hfu => by
    obtain ⟨f1, rfl⟩ : ∃ f, fuel = f + 1 := ⟨fuel - 1, by omega⟩
    have hk : k = w.length := by omega
    rw [f_J6_signedHashCode_8, f_J6_signedHashCode_8b, if_pos (by rw [i3_le (by omega) (by omega)]; omega), hk, List.take_length]
  | d + 1, fuel, k, hk, hfu => by
    obtain ⟨f1, rfl⟩ : ∃ f, fuel = f + 1 := ⟨fuel - 1, by omega⟩
    have ih := t_hs8 h hf hw hl d f1 (k + 1) (by omega) (by omega)
    rw [hsW_take (by omega)] at ih
    rw [f_J6_signedHashCode_8, f_J6_signedHashCode_8b, if_neg (by rw [i3_le (by omega) (by omega)]; omega), gaI_u, h.1, gai9_s (by omega) (by omega), gB1_s, hf k (by omega), b255 (hw k (by omega)), i3_s]
    exact ih
theorem str_f {a v : Nat} {h z : Int32} {w : List Nat} (q : STR κ σ ω a v h z w) : gck σ (some a) 16 = some () ∧ gfR σ (some a) 16 0 = some (some v) ∧ gfI σ (some a) 16 1 = some 0 ∧ gfI σ (some a) 16 2 = some h ∧ gfI σ (some a) 16 3 = some z := by
  obtain ⟨f, h1, _⟩ := q
  rw [gck_u, gfR_u, gfI_u, gfI_u, gfI_u, h1.1]
  exact ⟨rfl, rfl, rfl, rfl, rfl⟩
def e11 (y : Nat) : Prop := y = 11
theorem t_hash (hF : 200 ≤ F) {a v : Nat} {h z : Int32} {w : List Nat} (q : STR κ σ ω a v h z w) (hz : HZ h z w) (hl : w.length ≤ 150) (hw : ∀ k, k < w.length → w.getD k 0 < 128) : ∃ σ' h' z', f_J4_hashCode κ F (some a) σ = some (hsW 0 w, σ') ∧ ext e11 0 0 σ ω σ' ω ∧ STR κ σ' ω a v h' z' w ∧ HZ h' z' w := by
  obtain ⟨b1, b2, b3, b4, b5⟩ := str_f q
  by_cases e : h = 0 ∧ z = 0
  · obtain ⟨rfl, rfl⟩ := e
    have hlat : f_J4_isLatin1 κ F (some a) σ = some (1, σ) := by rw [f_J4_isLatin1, f_J4_isLatin1_0, if_neg (by decide), b3, gB1_s, if_pos rfl, f_J4_isLatin1_18, gok_z1, gB1_s]
    obtain ⟨f, h1, h2, h3⟩ := q
    have hj5 : f_J5_hashCode κ F (some v) σ = some (hsW 0 w, σ) := by
      have gl : gal σ (some v) = some (Int32.ofNat w.length) := by rw [gal_u, h2.1, gal9_s _ _ _ (by decide)]
      rw [f_J5_hashCode, f_J5_hashCode_0, gl, gB1_s]
      by_cases l0 : w.length = 0
      · rw [if_pos (by rw [l0]; rfl), f_J5_hashCode_51, List.eq_nil_of_length_eq_zero l0]; rfl
      · rw [if_neg (by rw [show (0 : Int32) = Int32.ofNat 0 from rfl, i3_inj (by omega) (by omega)]; exact l0)]
        by_cases l1 : w.length = 1
        · rw [if_pos (by rw [l1]; rfl), gaI_u, h2.1, show (0 : Int32) = Int32.ofNat 0 from rfl, gai9_s (by omega) (by omega), gB1_s, h3 0 (by omega), b255 (hw 0 (by omega)), f_J5_hashCode_51]
          match w, l1 with
          | [c], _ =>
            show some (Int32.ofNat c, σ) = some ((31 : Int32) * 0 + Int32.ofNat c, σ)
            rw [show (31 : Int32) * 0 = 0 from rfl, Int32.zero_add]
        · have h8 := t_hs8 (F := F) h2 h3 hw (by omega) w.length F 0 (by omega) (by omega)
          rw [if_neg (by rw [show (1 : Int32) = Int32.ofNat 1 from rfl, i3_inj (by omega) (by omega)]; exact l1), gB1_s, f_J6_vectorizedHashCode, f_J6_vectorizedHashCode_0, if_pos rfl, gct_2 h2, gB1_s, f_J6_signedHashCode, f_J6_signedHashCode_0]
          rw [show (0 : Int32) + Int32.ofNat w.length = Int32.ofNat w.length from Int32.zero_add _]
          rw [show f_J6_signedHashCode_8 κ F F 0 (some v) (Int32.ofNat w.length) 0 σ = some (hsW 0 w, σ) from h8, gB2_s, f_J6_vectorizedHashCode_157, gB2_s, f_J5_hashCode_51]
    rw [f_J4_hashCode, f_J4_hashCode_0, b4, gB1_s, if_pos rfl, b5, gB1_s, if_pos rfl, b1, gB1_s, hlat, gB2_s, if_neg (by decide), b2, gB1_s, hj5, gB2_s, f_J4_hashCode_40]
    by_cases h0 : hsW 0 w = 0
    · have s1 := oc_pf (v := .int 1) h1 (k := 3) (show 3 < 4 by decide)
      have e1 := oc_ext_up h1 (.inr (16, [.ref v, .int 0, .int 0, .int 1])) (fun y => y = 11) rfl
      have p1 := oc_up h1 (.inr (16, [.ref v, .int 0, .int 0, .int 1]))
      refine ⟨_, 0, 1, ?_, e1, ⟨f, p1, oc_mv h2 e1 (by decide), h3⟩, Or.inr ⟨h0.symm, fun _ => by decide⟩⟩
      rw [if_pos h0, gok_z1, gB1_s, s1, gB1_s, f_J4_hashCode_58]
      rfl
    · have s1 := oc_pf (v := .int (hsW 0 w)) h1 (k := 2) (show 2 < 4 by decide)
      have e1 := oc_ext_up h1 (.inr (16, [.ref v, .int 0, .int (hsW 0 w), .int 0])) (fun y => y = 11) rfl
      have p1 := oc_up h1 (.inr (16, [.ref v, .int 0, .int (hsW 0 w), .int 0]))
      refine ⟨_, hsW 0 w, 0, ?_, e1, ⟨f, p1, oc_mv h2 e1 (by decide), h3⟩, Or.inr ⟨rfl, fun h => absurd h h0⟩⟩
      rw [if_neg h0, s1, gB1_s, f_J4_hashCode_58]
      rfl
  · have hz2 : h = hsW 0 w ∧ (h = 0 → z ≠ 0) := hz.elim (fun x => absurd x e) (fun x => x)
    refine ⟨σ, h, z, ?_, ext_refl _ _ _, q, hz⟩
    rw [f_J4_hashCode, f_J4_hashCode_0, b4, gB1_s]
    by_cases h0 : h = 0
    · rw [if_pos h0, b5, gB1_s, if_neg (hz2.2 h0), f_J4_hashCode_58, hz2.1]
    · rw [if_neg h0, f_J4_hashCode_58, hz2.1]
/-! equality with a word of the program -/
theorem t_eq9 {v v2 u u2 : Nat} {w w2 : List Nat} {f f2 : Nat → Int32} (h : σ.1 v = some (.inl (2, w.length, .inl f))) (h2 : σ.1 v2 = some (.inl (2, w2.length, .inl f2))) (hl : w.length = w2.length) (hf : ∀ k, k < w.length → f k = Int32.ofNat (w.getD k 0)) (hf2 : ∀ k, k < w2.length → f2 k = Int32.ofNat (w2.getD k 0)) (hw : ∀ k, k < w.length → w.getD k 0 < 128) (hw2 : ∀ k, k < w2.length → w2.getD k 0 < 128) (hl1 : w.length < 1000) : ∀ (d fuel k : Nat), k + d = w.length → d < fuel → w.take k = w2.take k → f_J5_equals_9 κ F fuel (some v) (some v2) (Int32.ofNat k) σ = some (if w = w2 then 1 else 0, σ)
  | 0, fuel, k, hk, hfu, ht => by
    obtain ⟨f1, rfl⟩ : ∃ f, fuel = f + 1 := ⟨fuel - 1, by omega⟩
    have hk : k = w.length := by omega
    have e : w = w2 := by
      have := ht
      rw [hk, List.take_length, hl, List.take_length] at this
      exact this
    rw [f_J5_equals_9, f_J5_equals_9b, gal_u, h, gal9_s _ _ _ (by decide), gB1_s, if_pos (by rw [i3_le (by omega) (by omega)]; omega), gok_z1, gB1_s, if_pos e]
  | d + 1, fuel, k, hk, hfu, ht => by
    obtain ⟨f1, rfl⟩ : ∃ f, fuel = f + 1 := ⟨fuel - 1, by omega⟩
    rw [f_J5_equals_9, f_J5_equals_9b, gal_u, h, gal9_s _ _ _ (by decide), gB1_s, if_neg (by rw [i3_le (by omega) (by omega)]; omega), gaI_u, h, gai9_s (by omega) (by omega), gB1_s, gaI_u, h2, gai9_s (by omega) (by omega), gB1_s, hf k (by omega), hf2 k (by omega)]
    have a1 := hw k (by omega)
    have a2 := hw2 k (by omega)
    by_cases e : w.getD k 0 = w2.getD k 0
    · rw [if_pos (by rw [e]), i3_s]
      refine t_eq9 (u := u) (u2 := u2) h h2 hl hf hf2 hw hw2 hl1 d f1 (k + 1) (by omega) (by omega) ?_
      rw [List.take_add_one, List.take_add_one, ht]
      refine congrArg _ ?_
      rw [List.getD_eq_getElem?_getD, List.getD_eq_getElem?_getD] at e
      rw [List.getElem?_eq_getElem (by omega), List.getElem?_eq_getElem (by omega)] at e ⊢
      exact congrArg (fun x => [x]) e
    · rw [if_neg (fun h => e ((i3_inj (by omega) (by omega)).mp h)), gok_z0, gB1_s, if_neg (fun h => e (by rw [h]))]
theorem t_equals (hF : 200 ≤ F) {a v i : Nat} {h z : Int32} {w w2 : List Nat} (q : STR κ σ ω a v h z w) (q2 : KW κ σ ω i w2) (hl : w.length ≤ 150) (hw : ∀ k, k < w.length → w.getD k 0 < 128) (hw2 : ∀ k, k < w2.length → w2.getD k 0 < 128) (hl2 : w2.length < 1000) : f_J4_equals κ F (some a) (κ.2 i) σ = some (if w = w2 then 1 else 0, σ) := by
  obtain ⟨b1, b2, b3, b4, b5⟩ := str_f q
  obtain ⟨f, h1, h2, h3⟩ := q
  obtain ⟨a2, v2, hh, zz, f2, c1, c2, c3, c4⟩ := q2
  have hne : ¬ (some a = some a2) := fun e => by
    have e : a = a2 := Option.some.inj e
    have x1 := h1.2.2.1
    rw [e, c2.2.2] at x1
    omega
  have g1 : gio σ (some a2) [16] [] = some 1 := by rw [gio_u, c2.1]; rfl
  have g2 : gcc σ (some a2) 16 = some () := by rw [gcc_u, c2.1]; rfl
  have g3 : gfI σ (some a2) 16 1 = some 0 := by rw [gfI_u, c2.1]; rfl
  have g4 : gfR σ (some a2) 16 0 = some (some v2) := by rw [gfR_u, c2.1]; rfl
  rw [c1, f_J4_equals, f_J4_equals_0, if_neg hne, g1, gB1_s, if_neg (by decide), g2, gB1_s, if_neg (by decide), b3, gB1_s, g3, gB1_s, if_pos rfl, f_J4_equals_36, b2, gB1_s, g4, gB1_s, f_J5_equals, f_J5_equals_0, gal_u, h2.1, gal9_s _ _ _ (by decide), gB1_s, gal_u, c3.1, gal9_s _ _ _ (by decide), gB1_s]
  by_cases e : w.length = w2.length
  · have := t_eq9 (κ := κ) (F := F) (u := 0) (u2 := 0) h2.1 c3.1 e h3 c4 hw hw2 (by omega) w.length F 0 (by omega) (by omega) rfl
    rw [if_pos (by rw [e]), show f_J5_equals_9 κ F F (some v) (some v2) 0 σ = _ from this, gB2_s]
    by_cases e2 : w = w2
    · rw [if_pos e2, if_neg (by decide), f_J4_equals_55, gok_z1, gB1_s]
    · rw [if_neg e2, if_pos rfl, f_J4_equals_54, f_J4_equals_55, gok_z0, gB1_s]
  · rw [if_neg (by rw [i3_inj (by omega) (by omega)]; exact e), gok_z0, gB1_s, gB2_s, if_pos rfl, f_J4_equals_54, f_J4_equals_55, gok_z0, gB1_s, if_neg (fun h => e (by rw [h]))]
end C
