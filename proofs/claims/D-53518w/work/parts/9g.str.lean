set_option maxRecDepth 100000
/-! the component's words: a builder of letters, a string, its hash, its equality -/
def hsW (h : Int32) : List Nat → Int32
  | [] => h
  | c :: r => hsW ((31 : Int32) * h + Int32.ofNat c) r
/-- a string that was built -/
def STR (κ : gK) (σ : gS) (ω : Nat → Nat) (a v : Nat) (h z : Int32) (w : List Nat) : Prop := ∃ f, oc κ σ ω 11 a (.inr (16, [.ref v, .int 0, .int h, .int z])) ∧ oc κ σ ω 12 v (.inl (2, w.length, .inl f)) ∧ ∀ k, k < w.length → f k = Int32.ofNat (w.getD k 0)
def HZ (h z : Int32) (w : List Nat) : Prop := (h = 0 ∧ z = 0) ∨ (h = hsW 0 w ∧ (h = 0 → z ≠ 0))
/-- a builder -/
def SB (κ : gK) (σ : gS) (ω : Nat → Nat) (a cap : Nat) (w : List Nat) : Prop := ∃ v z f, oc κ σ ω 9 a (.inr (17, [.ref v, .int 0, .int z, .int (Int32.ofNat w.length)])) ∧ oc κ σ ω 10 v (.inl (2, cap, .inl f)) ∧ w.length ≤ cap ∧ cap < 1000 ∧ (∀ k, k < cap → fits .byte (.int (f k)) = true) ∧ ∀ k, k < w.length → f k = Int32.ofNat (w.getD k 0)
def n9t (y : Nat) : Prop := 9 ≤ y ∧ y ≤ 12
section C
variable {κ : gK} {F : Nat} {σ : gS} {ω : Nat → Nat}
theorem SB_mv {T : Nat → Prop} {n m : Nat} {σ1 : gS} {ω1 : Nat → Nat} {a cap : Nat} {w : List Nat} (h : SB κ σ ω a cap w) (e : ext T n m σ ω σ1 ω1) (h7 : ¬ T 9) (h8 : ¬ T 10) : SB κ σ1 ω1 a cap w := by
  obtain ⟨v, z, f, a1, a2, a3⟩ := h; exact ⟨v, z, f, oc_mv a1 e h7, oc_mv a2 e h8, a3⟩
theorem STR_mv {T : Nat → Prop} {n m : Nat} {σ1 : gS} {ω1 : Nat → Nat} {a v : Nat} {h z : Int32} {w : List Nat} (q : STR κ σ ω a v h z w) (e : ext T n m σ ω σ1 ω1) (h7 : ¬ T 11) (h8 : ¬ T 12) : STR κ σ1 ω1 a v h z w := by
  obtain ⟨f, a1, a2, a3⟩ := q; exact ⟨f, oc_mv a1 e h7, oc_mv a2 e h8, a3⟩
theorem fits_0 : fits .byte (.int 0) = true := by decide
theorem fits_b {c : Nat} (hc : c < 128) : fits .byte (.int (Int32.ofNat c)) = true ∧ (Int32.ofNat c).toInt8.toInt32 = Int32.ofNat c := by
  have h1 : inR (Int32.ofNat c) 0 127 = true := by
    rw [show (0 : Int32) = Int32.ofNat 0 from rfl, show (127 : Int32) = Int32.ofNat 127 from rfl, inR_ofNat (by omega) (by omega) (by omega), decide_eq_true (Nat.zero_le _), decide_eq_true (show c ≤ 127 by omega)]
    rfl
  refine ⟨?_, (i8_byte h1).1⟩
  have h2 := (i8_byte h1).2
  unfold fits
  rw [Bool.and_eq_true]
  refine ⟨decide_eq_true ?_, decide_eq_true h2.2⟩
  rw [Int32.le_iff_toInt_le, Int32.toInt_ofNat_small (by omega)]
  show (-128 : Int) ≤ _
  omega
theorem ch16 {c : Nat} (hc : c < 128) : ((Int32.ofNat c).toUInt32 % 65536).toInt32 = Int32.ofNat c := by
  apply Int32.toInt_inj.mp
  have h1 : (Int32.ofNat c).toUInt32 = UInt32.ofNat c := rfl
  rw [h1]
  have h2 : UInt32.ofNat c % 65536 = UInt32.ofNat c := by
    apply UInt32.toNat_inj.mp
    have h3 : (UInt32.ofNat c).toNat = c := by rw [UInt32.toNat_ofNat']; exact Nat.mod_eq_of_lt (by omega)
    rw [UInt32.toNat_mod, h3]
    show c % 65536 = c
    exact Nat.mod_eq_of_lt (by omega)
  rw [h2]
  rfl
theorem sb_f {a v : Nat} {z n : Int32} (h : oc κ σ ω 9 a (.inr (17, [.ref v, .int 0, .int z, .int n]))) : gck σ (some a) 17 = some () ∧ gfR σ (some a) 17 0 = some (some v) ∧ gfI σ (some a) 17 1 = some 0 ∧ gfI σ (some a) 17 3 = some n := by
  rw [gck_u, gfR_u, gfI_u, gfI_u, h.1]
  exact ⟨rfl, rfl, rfl, rfl⟩
theorem sb_latin {a v : Nat} {z n : Int32} (h : oc κ σ ω 9 a (.inr (17, [.ref v, .int 0, .int z, .int n]))) : f_J12_isLatin1 κ F (some a) σ = some (1, σ) := by
  rw [f_J12_isLatin1, f_J12_isLatin1_0, if_neg (by decide), (sb_f h).2.2.1, gB1_s, if_pos rfl, f_J12_isLatin1_18, gok_z1, gB1_s]
theorem oc_sB {o a n k : Nat} {f : Nat → Int32} {v : Int32} (h : oc κ σ ω o a (.inl (2, n, .inl f))) (hk : k < n) (hn : n < 2147483648) (hv : v.toInt8.toInt32 = v) : gsB κ σ (some a) (Int32.ofNat k) v = some (gup σ a (.inl (2, n, .inl (va_up f k v)))) := by
  unfold gsB
  simp only
  rw [h.1]
  simp only
  rw [if_pos ⟨trivial, by rw [(i3_ok (show k < 2147483648 by omega)).2]; intro h; rcases h with h | h; exact (i3_ok (show k < 2147483648 by omega)).1 h; omega, h.2.2.2⟩, (i3_ok (show k < 2147483648 by omega)).2, hv]
/-- the capacity is looked at -/
theorem sb_ens0 {a cap : Nat} {w : List Nat} (h : SB κ σ ω a cap w) (hl : w.length < cap) : f_J12_ensureCapacityInternal κ F (some a) (Int32.ofNat (w.length + 1)) σ = some ((), σ) := by
  obtain ⟨v, z, f, h1, h2, h3, h4, h5, h6⟩ := h
  obtain ⟨b1, b2, b3, b4⟩ := sb_f h1
  have e0 : Int32.ofNat cap >>> ((0 : Int32) &&& 31) = Int32.ofNat cap := by
    rw [show (0 : Int32) &&& 31 = 0 from rfl]; exact Int32.shiftRight_zero
  rw [f_J12_ensureCapacityInternal, f_J12_ensureCapacityInternal_0, b2, gB1_s, gal_u, h2.1, gal9_s _ _ _ (by decide), gB1_s, b3, gB1_s, e0, if_pos ?_, f_J12_ensureCapacityInternal_38]
  rw [Int32.le_iff_toInt_le, Int32.toInt_sub, Int32.toInt_ofNat_small (by omega), Int32.toInt_ofNat_small (by omega), show (0 : Int32).toInt = 0 from rfl, Int.bmod_eq_of_le (by omega) (by omega)]
  omega
/-- the bytes are made longer -/
theorem sb_ens1 {a cap : Nat} {w : List Nat} (h : SB κ σ ω a cap w) (hl : w.length = cap) (hc : cap < 400) (hc0 : 0 < cap) : ∃ σ' ω', f_J12_ensureCapacityInternal κ F (some a) (Int32.ofNat (w.length + 1)) σ = some ((), σ') ∧ ext (fun y => y = 9) 1 (2 * cap + 2) σ ω σ' ω' ∧ SB κ σ' ω' a (2 * cap + 2) w := by
  obtain ⟨v, z, f, h1, h2, h3, h4, h5, h6⟩ := h
  have hb : κ.1 ≤ σ.2.1 := by have h1' := h1.2.1; have h2' := h1.2.2.2; omega
  obtain ⟨b1, b2, b3, b4⟩ := sb_f h1
  have e0 : ∀ n : Nat, Int32.ofNat n >>> ((0 : Int32) &&& 31) = Int32.ofNat n := fun n => by
    rw [show (0 : Int32) &&& 31 = 0 from rfl]; exact Int32.shiftRight_zero
  have e1 : ∀ n : Nat, Int32.ofNat n <<< ((0 : Int32) &&& 31) = Int32.ofNat n := fun n => by
    rw [show (0 : Int32) &&& 31 = 0 from rfl]; exact Int32.shiftLeft_zero
  obtain ⟨p1, p2⟩ := push_new (κ := κ) (ω := ω) 10 hb (.inl (2, gz 2 (2 * cap + 2))) (2 * cap + 2)
  have p1 : oc κ _ _ 10 σ.2.1 (.inl (2, 2 * cap + 2, .inl (fun _ => (0 : Int32)))) := p1
  have h12 := oc_mv h1 p2 (fun h => h)
  have h22 := oc_mv h2 p2 (fun h => h)
  have n1 : gna σ 2 (Int32.ofNat (2 * cap + 2)) = some (some σ.2.1, gpush σ (.inl (2, gz 2 (2 * cap + 2))) (2 * cap + 2)) := gna_s σ (t := 2) (by omega)
  generalize gpush σ (.inl (2, gz 2 (2 * cap + 2))) (2 * cap + 2) = S1 at n1 p1 p2 h12 h22
  have n3 := gcpI_eq (κ := κ) (t := 2) (sp := 0) (dp := 0) (n := Int32.ofNat cap) h22.1 p1.1 h22.2.2.2 p1.2.2.2 (by decide) (by decide) (i3_ok (by omega)).1 (by rw [(i3_ok (by omega)).2]; show 0 + cap ≤ cap; omega) (by rw [(i3_ok (by omega)).2]; show 0 + cap ≤ 2 * cap + 2; omega) (fun i hi => by
    rw [(i3_ok (by omega)).2] at hi
    rw [show (0 : Int32).toNatClampNeg = 0 from rfl, Nat.zero_add]
    exact h5 i hi)
  rw [(i3_ok (show cap < 2147483648 by omega)).2, show (0 : Int32).toNatClampNeg = 0 from rfl] at n3
  have e3 := fresh_gup (d := .inl (2, 2 * cap + 2, .inl (va_cpy f (fun _ => 0) 0 0 cap))) p2 (Nat.le_refl _)
  have p3 := oc_up p1 (.inl (2, 2 * cap + 2, .inl (va_cpy f (fun _ => 0) 0 0 cap)))
  have h13 := oc_mv h1 e3 (fun h => h)
  generalize gup S1 σ.2.1 (.inl (2, 2 * cap + 2, .inl (va_cpy f (fun _ => 0) 0 0 cap))) = S2 at n3 e3 p3 h13
  have s4 := oc_pf (v := .ref σ.2.1) h13 (k := 0) (show 0 < 4 by decide)
  have e4 := oc_ext_up h13 (.inr (17, [.ref σ.2.1, .int 0, .int z, .int (Int32.ofNat w.length)])) (fun y => y = 9) rfl
  have h14 := oc_up h13 (.inr (17, [.ref σ.2.1, .int 0, .int z, .int (Int32.ofNat w.length)]))
  have s4' : gpf κ S2 (some a) 17 0 (.ref σ.2.1) = some (gup S2 a (.inr (17, [.ref σ.2.1, .int 0, .int z, .int (Int32.ofNat w.length)]))) := s4
  have hcp : ∀ k, va_cpy f (fun _ => 0) 0 0 cap k = if k < cap then f k else 0 := fun k => by
    unfold va_cpy
    by_cases e : k < cap
    · rw [if_pos ⟨Nat.zero_le _, by omega⟩, if_pos e, Nat.zero_add, Nat.sub_zero]
    · rw [if_neg (fun h => e (by omega)), if_neg e]
  refine ⟨_, _, ?_, ext_mono (ext_trans (nT_le e3 (Nat.le_refl _) (Nat.le_refl _)) e4) (fun _ h => h) (by omega) (by omega), ⟨σ.2.1, z, _, h14, oc_mv p3 e4 (by decide), by omega, by omega, fun k hk => ?_, fun k hk => ?_⟩⟩
  · have hne : ¬ (Int32.ofNat (w.length + 1) - Int32.ofNat cap ≤ 0) := by
      rw [i3_sub (by omega), show (0 : Int32) = Int32.ofNat 0 from rfl, i3_le (by omega) (by omega)]; omega
    have hnl : f_J6_newLength κ F (Int32.ofNat cap) (Int32.ofNat (w.length + 1) - Int32.ofNat cap) (Int32.ofNat cap + ((2 : Int32) <<< ((0 : Int32) &&& 31))) σ = some (Int32.ofNat (2 * cap + 2), σ) := by
      rw [show (2 : Int32) <<< ((0 : Int32) &&& 31) = Int32.ofNat 2 from rfl, i3_sub (by omega), i3_add, f_J6_newLength, f_J6_newLength_0, if_pos (show Int32.ofNat (w.length + 1 - cap) < Int32.ofNat (cap + 2) from by rw [i3_lt (by omega) (by omega)]; omega), i3_add, if_neg (by rw [show (0 : Int32) = Int32.ofNat 0 from rfl, i3_le (by omega) (by omega)]; omega), if_neg (by rw [show (2147483639 : Int32) = Int32.ofNat 2147483639 from rfl, i3_lt (by omega) (by omega)]; omega), show cap + (cap + 2) = 2 * cap + 2 by omega]
    have gl : ∀ {S : gS} {w : Nat → Nat}, oc κ S w 10 v (.inl (2, cap, .inl f)) → gal S (some v) = some (Int32.ofNat cap) := fun h => by rw [gal_u, h.1, gal9_s _ _ _ (by decide)]
    rw [f_J12_ensureCapacityInternal, f_J12_ensureCapacityInternal_0, b2, gB1_s, gl h2, gB1_s, b3, gB1_s, e0, if_neg hne, gB1_s, b1, gB1_s, f_J12_newCapacity, f_J12_newCapacity_0, b2, gB1_s, gl h2, gB1_s, b3, gB1_s, gB1_s, e1, hnl, gB2_s, if_neg (by rw [show (2147483647 : Int32) = Int32.ofNat 2147483647 from rfl, i3_inj (by omega) (by omega)]; omega), b3, gB1_s, e0, gB2_s, b3, gB1_s, e1, f_J15_copyOf, f_J15_copyOf_0, gl h2, gB1_s, if_neg (by rw [i3_inj (by omega) (by omega)]; omega), n1, gB2_s, gl h22, gB1_s, if_neg (by rw [i3_lt (by omega) (by omega)]; omega), n3, gB1_s, gB2_s]
    show gB1 (gpf κ S2 (some a) 17 0 (.ref σ.2.1)) _ = _
    rw [s4', gB1_s, f_J12_ensureCapacityInternal_38]
  · show fits .byte (.int (va_cpy f (fun _ => 0) 0 0 cap k)) = true
    rw [hcp]
    by_cases e : k < cap
    · rw [if_pos e]; exact h5 k e
    · rw [if_neg e]; exact fits_0
  · rw [hcp, if_pos (by omega)]; exact h6 k hk
/-- a letter more -/
theorem sb_put {a cap : Nat} {w : List Nat} {c : Nat} (h : SB κ σ ω a cap w) (hl : w.length < cap) (hc : c < 128) : ∃ σ', gB1 (gfR σ (some a) 17 0) (fun v10 => gB1 (gfI σ (some a) 17 3) fun v11 => gB1 (gpf κ σ (some a) 17 3 (.int (v11 + (1 : Int32)))) fun s12 => gB1 (gsB κ s12 v10 v11 ((Int32.ofNat c).toInt8.toInt32)) fun s13 => f_J12_append_3_75 κ F (some a) s13) = some (some a, σ') ∧ ext n9t 0 0 σ ω σ' ω ∧ SB κ σ' ω a cap (w ++ [c]) := by
  obtain ⟨v, z, f, h1, h2, h3, h4, h5, h6⟩ := h
  obtain ⟨b1, b2, b3, b4⟩ := sb_f h1
  obtain ⟨y1, y2⟩ := fits_b hc
  have hll : (w ++ [c]).length = w.length + 1 := by rw [List.length_append]; rfl
  have s1 := oc_pf (v := .int (Int32.ofNat (w.length + 1))) h1 (k := 3) (show 3 < 4 by decide)
  have e1 := oc_ext_up h1 (.inr (17, [.ref v, .int 0, .int z, .int (Int32.ofNat (w.length + 1))])) (fun y => y = 9) rfl
  have h11 := oc_up h1 (.inr (17, [.ref v, .int 0, .int z, .int (Int32.ofNat (w.length + 1))]))
  have h21 := oc_mv h2 e1 (by decide)
  have s1' : gpf κ σ (some a) 17 3 (.int (Int32.ofNat (w.length + 1))) = some (gup σ a (.inr (17, [.ref v, .int 0, .int z, .int (Int32.ofNat (w.length + 1))]))) := s1
  generalize gup σ a (.inr (17, [.ref v, .int 0, .int z, .int (Int32.ofNat (w.length + 1))])) = S1 at s1' e1 h11 h21
  have s2 := oc_sB h21 hl (by omega) y2
  have e2 := oc_ext_up h21 (.inl (2, cap, .inl (va_up f w.length (Int32.ofNat c)))) (fun y => y = 10) rfl
  have h22 := oc_up h21 (.inl (2, cap, .inl (va_up f w.length (Int32.ofNat c))))
  refine ⟨_, ?_, ext_mono (ext_trans (ext_mono e1 (fun y h => by have h : y = 9 := h; exact (⟨by omega, by omega⟩ : n9t y)) (Nat.le_refl _) (Nat.le_refl _)) (ext_mono e2 (fun y h => by have h : y = 10 := h; exact (⟨by omega, by omega⟩ : n9t y)) (Nat.le_refl _) (Nat.le_refl _))) (fun _ h => h) (by omega) (by omega), ⟨v, z, _, by rw [hll]; exact oc_mv h11 e2 (by decide), h22, by omega, h4, fun k hk => ?_, fun k hk => ?_⟩⟩
  · rw [b2, gB1_s, b4, gB1_s, i3_s, s1', gB1_s, y2, s2, gB1_s, f_J12_append_3_75]
  · by_cases e : k = w.length
    · rw [e, vup_at]; exact y1
    · rw [vup_ne e]; exact h5 k hk
  · rw [hll] at hk
    by_cases e : k = w.length
    · rw [e, vup_at]; simp
    · rw [vup_ne e, h6 k (by omega)]
      simp [List.getD_eq_getElem?_getD, List.getElem?_append_left (show k < w.length by omega)]
theorem sb_append {a cap : Nat} {w : List Nat} {c : Nat} (h : SB κ σ ω a cap w) (hc : c < 128) (hcap : cap < 400) (hc0 : 0 < cap) : ∃ σ' ω' cap' nc ns, f_J13_append_3 κ F (some a) (Int32.ofNat c) σ = some (some a, σ') ∧ ext n9t nc ns σ ω σ' ω' ∧ SB κ σ' ω' a cap' (w ++ [c]) ∧ (if w.length < cap then cap' = cap ∧ nc = 0 ∧ ns = 0 else w.length = cap ∧ cap' = 2 * cap + 2 ∧ nc = 1 ∧ ns = 2 * cap + 2) := by
  have hsb := h
  obtain ⟨v, z, f, h1, h2, h3, h4, h5, h6⟩ := h
  obtain ⟨b1, b2, b3, b4⟩ := sb_f h1
  have can : ∀ s, f_J5_canEncode κ F (Int32.ofNat c) s = some (1, s) := fun s => by
    rw [f_J5_canEncode, f_J5_canEncode_0, if_neg (by rw [show (255 : Int32) = Int32.ofNat 255 from rfl, i3_lt (by omega) (by omega)]; omega), f_J5_canEncode_12, gok_z1, gB1_s]
  by_cases e : w.length < cap
  · obtain ⟨σ', q1, q2, q3⟩ := sb_put (F := F) hsb e hc
    refine ⟨σ', ω, cap, 0, 0, ?_, q2, q3, by rw [if_pos e]; exact ⟨rfl, rfl, rfl⟩⟩
    rw [f_J13_append_3, f_J13_append_3_0, b1, gB1_s, f_J12_append_3, f_J12_append_3_0, b4, gB1_s, b1, gB1_s, i3_s, sb_ens0 hsb e, gB2_s, b1, gB1_s, sb_latin h1, gB2_s, if_neg (by decide), can, gB2_s, if_neg (by decide), q1, gB2_s]
  · have e' : w.length = cap := by omega
    obtain ⟨S1, w1, r1, r2, r3⟩ := sb_ens1 (F := F) hsb e' hcap hc0
    have hsb1 := r3
    obtain ⟨v1, z1, f1, g1, _⟩ := r3
    obtain ⟨σ', q1, q2, q3⟩ := sb_put (F := F) hsb1 (by omega) hc
    refine ⟨σ', w1, 2 * cap + 2, 1, 2 * cap + 2, ?_, ext_mono (ext_trans (ext_mono r2 (fun y h => by have h : y = 9 := h; exact (⟨by omega, by omega⟩ : n9t y)) (Nat.le_refl _) (Nat.le_refl _)) q2) (fun _ h => h) (by omega) (by omega), q3, by rw [if_neg e]; exact ⟨e', rfl, rfl, rfl⟩⟩
    rw [f_J13_append_3, f_J13_append_3_0, b1, gB1_s, f_J12_append_3, f_J12_append_3_0, b4, gB1_s, b1, gB1_s, i3_s, r1, gB2_s, (sb_f g1).1, gB1_s, sb_latin g1, gB2_s, if_neg (by decide), can, gB2_s, if_neg (by decide), q1, gB2_s]
/-- a new builder -/
theorem sb_new (hb : κ.1 ≤ σ.2.1) : ∃ a σ' ω', gnw σ 17 g0_J13 4 = some (some a, gpush σ (.inr (17, g0_J13)) 4) ∧ f_J13_init κ F (some a) (gpush σ (.inr (17, g0_J13)) 4) = some ((), σ') ∧ ext nT 2 20 σ ω σ' ω' ∧ SB κ σ' ω' a 16 [] := by
  obtain ⟨p1, e1⟩ := push_new (κ := κ) (ω := ω) 9 hb (.inr (17, g0_J13)) 4
  have hb1 := ext_21 (κ := κ) e1 hb
  generalize hS1 : gpush σ (.inr (17, g0_J13)) 4 = S1 at p1 e1 hb1
  obtain ⟨p2, e2⟩ := push_new (κ := κ) (ω := own ω σ.2.1 9) 10 hb1 (.inl (2, gz 2 16)) 16
  have p2 : oc κ _ _ 10 S1.2.1 (.inl (2, 16, .inl (fun _ => (0 : Int32)))) := p2
  have n1 : gna S1 2 (16 : Int32) = some (some S1.2.1, gpush S1 (.inl (2, gz 2 16)) 16) := gna_s S1 (t := 2) (k := 16) (by decide)
  have p12 := oc_mv p1 e2 (fun h => h)
  have E2 : ext nT 2 20 σ ω (gpush S1 (.inl (2, gz 2 16)) 16) _ := ext_mono (ext_trans e1 e2) (fun _ h => h) (by omega) (by omega)
  generalize gpush S1 (.inl (2, gz 2 16)) 16 = S2 at n1 p2 p12 E2
  have s3 := oc_pf (v := .ref S1.2.1) p12 (show 0 < g0_J13.length by decide)
  have E3 := fresh_gup (d := .inr (17, [.ref S1.2.1, .int 0, .int 0, .int 0])) E2 (Nat.le_refl _)
  have p13 := oc_up p12 (.inr (17, [.ref S1.2.1, .int 0, .int 0, .int 0]))
  have z3 := oc_ext_up p12 (.inr (17, [.ref S1.2.1, .int 0, .int 0, .int 0])) (fun y => y = 9) rfl
  have s3' : gpf κ S2 (some σ.2.1) 17 0 (.ref S1.2.1) = some (gup S2 σ.2.1 (.inr (17, [.ref S1.2.1, .int 0, .int 0, .int 0]))) := s3
  have p23 := oc_mv p2 z3 (by decide)
  generalize gup S2 σ.2.1 (.inr (17, [.ref S1.2.1, .int 0, .int 0, .int 0])) = S3 at s3' E3 p13 p23
  have s4 := oc_pf (v := .int 0) p13 (k := 1) (show 1 < 4 by decide)
  have E4 := fresh_gup (d := .inr (17, [.ref S1.2.1, .int 0, .int 0, .int 0])) E3 (Nat.le_refl _)
  have p14 := oc_up p13 (.inr (17, [.ref S1.2.1, .int 0, .int 0, .int 0]))
  have z4 := oc_ext_up p13 (.inr (17, [.ref S1.2.1, .int 0, .int 0, .int 0])) (fun y => y = 9) rfl
  have s4' : gpf κ S3 (some σ.2.1) 17 1 (.int 0) = some (gup S3 σ.2.1 (.inr (17, [.ref S1.2.1, .int 0, .int 0, .int 0]))) := s4
  refine ⟨σ.2.1, _, _, by show some (some σ.2.1, gpush σ (.inr (17, g0_J13)) 4) = _; rw [hS1], ?_, E4, ⟨S1.2.1, 0, _, p14, oc_mv p23 z4 (by decide), Nat.zero_le _, by omega, fun _ _ => fits_0, fun k hk => absurd hk (Nat.not_lt_zero _)⟩⟩
  rw [f_J13_init, f_J13_init_0, gsm_s, gB1_s, f_J12_init, f_J12_init_0, gsm_s, gB1_s, if_neg (by decide), n1, gB2_s]
  show gB2 (gB1 (gpf κ S2 (some σ.2.1) 17 0 (.ref S1.2.1)) _) _ = _
  rw [s3', gB1_s, show gok .byte (0 : Int32) = some () from by decide, gB1_s, s4', gB1_s, f_J12_init_38, gB2_s]
end C
