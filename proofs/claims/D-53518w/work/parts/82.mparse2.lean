/-! the reference's reading: words, numbers, commands -/
theorem cmdW_le (w : List Nat) : cmdW w ≤ 7 := by
  unfold cmdW
  split
  · decide
  · split
    · decide
    · split
      · decide
      · split
        · decide
        · split
          · decide
          · split
            · decide
            · split
              · decide
              · decide
theorem wd_okW {tx : List Int32} {i n : Nat} (h : ∀ k, k < n → isC tx 97 122 (i + k) = true) : okW (wd tx i n) := by
  intro c hc
  unfold wd at hc
  obtain ⟨k, hk, rfl⟩ := List.mem_map.mp hc
  have := isC_iff.mp (h k (List.mem_range.mp hk))
  exact this.2
theorem i64_step {a x : Nat} (ha : a < 1073741824) (hx : 96 ≤ x) (hx2 : x < 1000) : (((32 : Int64) * Int64.ofNat a) + (Int32.ofNat x).toInt64) - (96 : Int64) = Int64.ofNat (32 * a + (x - 96)) := by
  have e1 : (Int32.ofNat x).toInt64 = Int64.ofNat x := by
    rw [← Int64.ofNat_int32ToNatClampNeg _ (Int32.not_lt.mp (i3_ok (by omega)).1), (i3_ok (by omega)).2]
  rw [e1, show (32 : Int64) = Int64.ofNat 32 from rfl, ← Int64.ofNat_mul, ← Int64.ofNat_add]
  have e2 : 32 * a + x = (32 * a + (x - 96)) + 96 := by omega
  rw [e2, Int64.ofNat_add, show Int64.ofNat 96 = (96 : Int64) from rfl, Int64.add_sub_cancel]
section Q
variable {κ : gK} {F : Nat} {m : Nat} {V : mV} {σ : gS}
theorem q_word7 {tx : List Int32} (h : TX V tx) (hm : κ.1 ≤ m) {i : Nat} {N : mR} (hi : i ≤ tx.length) (fuel : Nat) : ∀ (n : Nat) (c : Int32), i + n ≤ tx.length → tx.length - (i + n) < fuel → skT tx 97 122 (i + n) = skT tx 97 122 i → (∀ k, k < n → isC tx 97 122 (i + k) = true) →
    f_X6_readWord_7 κ F fuel (some m) (Int32.ofNat i) (Int64.ofNat (if n ≤ 6 then cdN (wd tx i n) else 0)) (MH m (pV V (Int32.ofNat (i + n)) c N) σ) =
      some (if cmdW (wd tx i (skT tx 97 122 i - i)) = 0 then 0 else 1, MH m (pV V (Int32.ofNat (if cmdW (wd tx i (skT tx 97 122 i - i)) = 0 then i else skT tx 97 122 i)) (Int32.ofNat (cmdW (wd tx i (skT tx 97 122 i - i)))) N) σ) := by
  have h150 := h.2.2.1
  induction fuel with
  | zero => intro n c h1 h2; exact absurd h2 (Nat.not_lt_zero _)
  | succ fuel ih =>
    intro n c h1 h2 h3 h4
    have hin := hr_isC (a := 97) (b := 122) (i := i + n) h (by omega) (by omega)
    have hIn : f_X6_in κ F (hr tx (i + n)) (97 : Int32) (122 : Int32) (MH m (pV V (Int32.ofNat (i + n)) c N) σ) = some (if isC tx 97 122 (i + n) then 1 else 0, MH m (pV V (Int32.ofNat (i + n)) c N) σ) := by
      rw [q_in]
      have : inR (hr tx (i + n)) 97 122 = isC tx 97 122 (i + n) := hin
      rw [this]
    have hok := wd_okW h4
    rw [f_X6_readWord_7, f_X6_readWord_7b, MH_ck, gB1_s, q_here h h1, gB2_s, hIn, gB2_s]
    by_cases e : isC tx 97 122 (i + n) = true
    · have hlt := isC_lt e
      have hch := (isC_iff.mp e).2
      rw [if_pos e, if_neg (by decide), MH_vat, gB1_s, vat_pV]
      have h4' : ∀ k, k < n + 1 → isC tx 97 122 (i + k) = true := fun k hk => by
        by_cases ek : k = n
        · rw [ek]; exact e
        · exact h4 k (by omega)
      have h3' : skT tx 97 122 (i + (n + 1)) = skT tx 97 122 i := by
        rw [skT_eq tx 97 122 (i + n), if_pos e] at h3
        exact h3
      have ih2 := ih (n + 1) c (by omega) (by omega) h3' h4'
      by_cases c6 : 6 ≤ n
      · have hc : Int32.ofNat i + (6 : Int32) ≤ Int32.ofNat (i + n) := by rw [L6, i3_add, i3_le (by omega) (by omega)]; omega
        rw [if_pos hc, f_X6_readWord_51, MH_vat, gB1_s, vat_pV, MH_wat hm, gB1_s, i3_s, wat_pV]
        rw [if_neg (show ¬ n + 1 ≤ 6 by omega)] at ih2
        exact ih2
      · have hc : ¬ (Int32.ofNat i + (6 : Int32) ≤ Int32.ofNat (i + n)) := by rw [L6, i3_add, i3_le (by omega) (by omega)]; omega
        have hb := cdN_lt hok (by rw [wd_len]; omega)
        have hhr : hr tx (i + n) = Int32.ofNat (chN tx (i + n)) := by unfold hr; rw [if_pos hlt]
        rw [if_neg hc, MH_ck, gB1_s, q_here h h1, gB2_s, f_X6_readWord_51, MH_vat, gB1_s, vat_pV, MH_wat hm, gB1_s, i3_s, wat_pV, if_pos (show n ≤ 6 by omega), hhr, i64_step hb (by omega) (by omega)]
        rw [if_pos (show n + 1 ≤ 6 by omega), wd_s, cdN_s] at ih2
        exact ih2
    · rw [if_neg e, if_pos rfl]
      have hJ : skT tx 97 122 i = i + n := by rw [← h3, skT_eq, if_neg e]
      have hn : skT tx 97 122 i - i = n := by omega
      have hm1 := q_meaning (κ := κ) (F := F) hok (MH m (pV V (Int32.ofNat (i + n)) c N) σ)
      rw [wd_len] at hm1
      have h7 := cmdW_le (wd tx i n)
      rw [hm1, gB2_s, MH_wcm hm, gB1_s, wcm_pV, MH_vcm, gB1_s, vcm_pV, hJ, show i + n - i = n by omega]
      by_cases c0 : cmdW (wd tx i n) = 0
      · rw [if_pos (show Int32.ofNat (cmdW (wd tx i n)) = (0 : Int32) from by rw [c0]; rfl), f_X6_readWord_89, MH_wat hm, gB1_s, wat_pV, MH_vcm, gB1_s, vcm_pV, if_pos (show Int32.ofNat (cmdW (wd tx i n)) = (0 : Int32) from by rw [c0]; rfl), f_X6_readWord_104, gok_z0, gB1_s, if_pos c0, if_pos c0]
      · have hne : ¬ Int32.ofNat (cmdW (wd tx i n)) = (0 : Int32) := fun e => c0 ((i3_inj (b := 0) (by omega) (by omega)).mp e)
        rw [if_neg hne, MH_vat, gB1_s, vat_pV, f_X6_readWord_89, MH_wat hm, gB1_s, wat_pV, MH_vcm, gB1_s, vcm_pV, if_neg hne, f_X6_readWord_104, gok_z1, gB1_s, if_neg c0, if_neg c0]
theorem q_readWord {tx : List Int32} (h : TX V tx) (hm : κ.1 ≤ m) (hF : 200 ≤ F) {i : Nat} {c : Int32} {N : mR} (hi : i ≤ tx.length) :
    f_X6_readWord κ F (some m) (MH m (pV V (Int32.ofNat i) c N) σ) =
      some (if cmdW (wd tx i (skT tx 97 122 i - i)) = 0 then 0 else 1, MH m (pV V (Int32.ofNat (if cmdW (wd tx i (skT tx 97 122 i - i)) = 0 then i else skT tx 97 122 i)) (Int32.ofNat (cmdW (wd tx i (skT tx 97 122 i - i)))) N) σ) := by
  have h150 := h.2.2.1
  have h7 := q_word7 (κ := κ) (F := F) (m := m) (V := V) (σ := σ) (N := N) h hm hi F 0 c (by omega) (by omega) rfl (fun k hk => absurd hk (Nat.not_lt_zero _))
  rw [f_X6_readWord, f_X6_readWord_0, MH_vat, gB1_s, vat_pV]
  exact h7
theorem nmV_lt {tx : List Int32} {j : Nat} (h : ∀ k, k < 3 → j + k < tx.length → True) : ∀ n, (∀ k, k < n → isC tx 48 57 (j + k) = true) → nmV tx j n < 10 ^ n
  | 0, _ => by show 0 < 1; decide
  | n + 1, hd => by
    have ih := nmV_lt h n (fun k hk => hd k (by omega))
    have := (isC_iff.mp (hd n (by omega))).2
    rw [nmV, Nat.pow_succ]
    omega
theorem i3_dig {a x : Nat} (hx : 48 ≤ x) (hx2 : x < 1000) (ha : a < 100000) : (((10 : Int32) * Int32.ofNat a) + Int32.ofNat x) - (48 : Int32) = Int32.ofNat (10 * a + (x - 48)) := by
  rw [show (10 : Int32) = Int32.ofNat 10 from rfl, i3_mul, i3_add, show (48 : Int32) = Int32.ofNat 48 from rfl, i3_sub (by omega)]
  congr 1
  omega
theorem q_num27 {tx : List Int32} (h : TX V tx) (hm : κ.1 ≤ m) {w j : Nat} {c : Int32} (hw : w < 2) (hj : j ≤ tx.length) (fuel : Nat) : ∀ (n : Nat) (N : mR), n ≤ 3 → j + n ≤ tx.length → 4 - n ≤ fuel → skp (isC tx 48 57) (3 - n) (j + n) = dgE tx j → (∀ k, k < n → isC tx 48 57 (j + k) = true) → N w = Int32.ofNat (nmV tx j n) →
    ∃ N', f_X6_readNumber_27 κ F fuel (some m) (Int32.ofNat w) (Int32.ofNat j) (MH m (pV V (Int32.ofNat (j + n)) c N) σ) = some (if j < dgE tx j then 1 else 0, MH m (pV V (Int32.ofNat (dgE tx j)) c N') σ) ∧ N' w = Int32.ofNat (nmV tx j (dgE tx j - j)) ∧ ∀ k, k ≠ w → N' k = N k := by
  have h150 := h.2.2.1
  induction fuel with
  | zero => intro n N hn h1 h2; omega
  | succ fuel ih =>
    intro n N hn h1 h2 h3 h4 h5
    have hin := hr_isC (a := 48) (b := 57) (i := j + n) h (by omega) (by omega)
    have hIn : f_X6_in κ F (hr tx (j + n)) (48 : Int32) (57 : Int32) (MH m (pV V (Int32.ofNat (j + n)) c N) σ) = some (if isC tx 48 57 (j + n) then 1 else 0, MH m (pV V (Int32.ofNat (j + n)) c N) σ) := by
      rw [q_in]
      have : inR (hr tx (j + n)) 48 57 = isC tx 48 57 (j + n) := hin
      rw [this]
    have fin : dgE tx j = j + n → f_X6_readNumber_87 κ F (some m) (Int32.ofNat j) (MH m (pV V (Int32.ofNat (j + n)) c N) σ) = some (if j < dgE tx j then 1 else 0, MH m (pV V (Int32.ofNat (dgE tx j)) c N) σ) := by
      intro hE
      rw [f_X6_readNumber_87, MH_vat, gB1_s, vat_pV, hE]
      by_cases c0 : j < j + n
      · rw [if_pos c0, if_neg (by rw [i3_le (by omega) (by omega)]; omega), f_X6_readNumber_100, gok_z1, gB1_s]
      · rw [if_neg c0, if_pos ((i3_le (by omega) (by omega)).mpr (by omega)), f_X6_readNumber_100, gok_z0, gB1_s]
    rw [f_X6_readNumber_27, f_X6_readNumber_27b, MH_ck, gB1_s, q_here h h1, gB2_s, hIn, gB2_s]
    by_cases e : isC tx 48 57 (j + n) = true
    · have hlt := isC_lt e
      have hch := (isC_iff.mp e).2
      rw [if_pos e, if_neg (by decide), MH_vat, gB1_s, vat_pV]
      by_cases c3 : 3 ≤ n
      · have hn3 : n = 3 := by omega
        have hE : dgE tx j = j + n := by rw [← h3, hn3]; rfl
        have hc : Int32.ofNat j + (3 : Int32) ≤ Int32.ofNat (j + n) := by rw [L3, i3_add, i3_le (by omega) (by omega)]; omega
        rw [if_pos hc]
        exact ⟨N, fin hE, by rw [h5, hE, show j + n - j = n by omega], fun _ _ => rfl⟩
      · have hc : ¬ (Int32.ofNat j + (3 : Int32) ≤ Int32.ofNat (j + n)) := by rw [L3, i3_add, i3_le (by omega) (by omega)]; omega
        have hhr : hr tx (j + n) = Int32.ofNat (chN tx (j + n)) := by unfold hr; rw [if_pos hlt]
        have hb := nmV_lt (tx := tx) (j := j) (fun _ _ _ => trivial) n h4
        have hb2 : 10 ^ n ≤ 10 ^ 3 := Nat.pow_le_pow_right (by decide) hn
        have g1 : gaI (MH m (pV V (Int32.ofNat (j + n)) c N) σ) (some (m + 6)) 0 (Int32.ofNat w) = some (Int32.ofNat (nmV tx j n)) := by rw [MH_gvnu rfl hw, vnu_pV, h5]
        have s1 : gsI κ (MH m (pV V (Int32.ofNat (j + n)) c N) σ) (some (m + 6)) (Int32.ofNat w) (Int32.ofNat (10 * nmV tx j n + (chN tx (j + n) - 48))) = some (MH m (pV V (Int32.ofNat (j + n)) c (va_up N w (Int32.ofNat (10 * nmV tx j n + (chN tx (j + n) - 48))))) σ) := by
          rw [MH_svnu hm rfl hw, vnu_pV, wnu_pV]
        have h4' : ∀ k, k < n + 1 → isC tx 48 57 (j + k) = true := fun k hk => by
          by_cases ek : k = n
          · rw [ek]; exact e
          · exact h4 k (by omega)
        have h3' : skp (isC tx 48 57) (3 - (n + 1)) (j + (n + 1)) = dgE tx j := by
          rw [show 3 - n = (3 - (n + 1)) + 1 by omega, skp, if_pos e] at h3
          exact h3
        rw [if_neg hc, MH_rvnu, gB1_s, gB1_s, g1, gB1_s, MH_ck, gB1_s, q_here h h1, gB2_s, hhr, i3_dig (by omega) (by omega) (by omega), s1, gB1_s, MH_vat, gB1_s, vat_pV, MH_wat hm, gB1_s, i3_s, wat_pV]
        obtain ⟨N', n1, n2, n3⟩ := ih (n + 1) (va_up N w (Int32.ofNat (10 * nmV tx j n + (chN tx (j + n) - 48)))) (by omega) (by omega) (by omega) h3' h4' (by rw [vup_at]; rfl)
        exact ⟨N', n1, n2, fun k hk => by rw [n3 k hk, vup_ne hk]⟩
    · rw [if_neg e, if_pos rfl]
      have hE : dgE tx j = j + n := by
        rw [← h3]
        cases hx : 3 - n with
        | zero => rfl
        | succ d => rw [skp, if_neg e]
      exact ⟨N, fin hE, by rw [h5, hE, show j + n - j = n by omega], fun _ _ => rfl⟩
theorem q_readNumber {tx : List Int32} (h : TX V tx) (hm : κ.1 ≤ m) (hF : 200 ≤ F) {w i : Nat} {c : Int32} {N : mR} (hw : w < 2) (hi : i ≤ tx.length) :
    ∃ N', f_X6_readNumber κ F (some m) (Int32.ofNat w) (MH m (pV V (Int32.ofNat i) c N) σ) = some (if (rNum tx i).1 then 1 else 0, MH m (pV V (Int32.ofNat (rNum tx i).2.1) c N') σ) ∧ ((rNum tx i).1 = true → N' w = Int32.ofNat (rNum tx i).2.2) ∧ ∀ k, k ≠ w → N' k = N k := by
  have h150 := h.2.2.1
  have he := hr_eq (a := 32) (i := i) h (by omega)
  have hj := skT_ge (a := 32) (b := 32) hi
  unfold rNum
  rw [f_X6_readNumber, f_X6_readNumber_0, MH_ck, gB1_s, q_here h hi, gB2_s]
  by_cases e : isC tx 32 32 i = true
  · rw [if_pos e, if_pos (show hr tx i = (32 : Int32) from he.mpr e), MH_ck, gB1_s, q_spaces h hm hF hi, gB2_s, MH_vat, gB1_s, vat_pV, MH_rvnu, gB1_s, MH_svnu hm rfl hw, gB1_s, vnu_pV, wnu_pV]
    obtain ⟨N', n1, n2, n3⟩ := q_num27 (κ := κ) (F := F) (m := m) (V := V) (σ := σ) (c := c) h hm hw hj.2 F 0 (va_up N w 0) (by omega) hj.2 (by omega) rfl (fun k hk => absurd hk (Nat.not_lt_zero _)) (vup_at _ _ _)
    refine ⟨N', ?_, fun _ => n2, fun k hk => by rw [n3 k hk, vup_ne hk]⟩
    refine n1.trans ?_
    by_cases c0 : skT tx 32 32 i < dgE tx (skT tx 32 32 i)
    · rw [if_pos c0, if_pos (decide_eq_true c0)]
    · rw [if_neg c0, if_neg (fun e => c0 (of_decide_eq_true e))]
  · rw [if_neg e, if_neg (show ¬ hr tx i = (32 : Int32) from fun e2 => e (he.mp e2)), gok_z0, gB1_s]
    exact ⟨N, rfl, fun e => (by cases e), fun _ _ => rfl⟩
/-- the end of a command -/
theorem q_fin {tx : List Int32} (h : TX V tx) (hm : κ.1 ≤ m) (hF : 200 ≤ F) {i a : Nat} {c : Int32} {N : mR} (hi : i ≤ tx.length) (f : Nat) :
    f_X6_readCommand_54 κ F (f + 1) (some m) (Int32.ofNat a) (Int32.ofNat a) (MH m (pV V (Int32.ofNat i) c N) σ) = some (if (rFin tx i).1 then 1 else 0, MH m (pV V (Int32.ofNat (rFin tx i).2) c N) σ) := by
  have hj := skT_ge (a := 32) (b := 32) hi
  have he := hr_eq (a := 59) (i := skT tx 32 32 i) h (by omega)
  unfold rFin
  rw [f_X6_readCommand_54, f_X6_readCommand_54b, if_pos (Int32.le_refl _), MH_ck, gB1_s, q_spaces h hm hF hi, gB2_s, MH_ck, gB1_s, q_here h hj.2, gB2_s]
  by_cases e : isC tx 59 59 (skT tx 32 32 i) = true
  · rw [if_pos e, if_pos (show hr tx (skT tx 32 32 i) = (59 : Int32) from he.mpr e), f_X6_readCommand_93, MH_vat, gB1_s, vat_pV, if_neg (by decide), f_X6_readCommand_108, i3_s, MH_wat hm, gB1_s, wat_pV, gok_z1, gB1_s]
    rfl
  · rw [if_neg e, if_neg (show ¬ hr tx (skT tx 32 32 i) = (59 : Int32) from fun e2 => e (he.mp e2)), f_X6_readCommand_93, MH_vat, gB1_s, vat_pV, if_pos rfl, f_X6_readCommand_108, Int32.add_zero, MH_wat hm, gB1_s, wat_pV, gok_z0, gB1_s]
    rfl
theorem q_rArg {tx : List Int32} (h : TX V tx) (hm : κ.1 ≤ m) (hF : 200 ≤ F) {c i : Nat} {N : mR} (hi : i ≤ tx.length) :
    ∃ N', f_X6_readCommand_51 κ F (some m) (Int32.ofNat (nNum c)) (MH m (pV V (Int32.ofNat i) (Int32.ofNat c) N) σ) = some (if (rArg tx c i).1 then 1 else 0, MH m (pV V (Int32.ofNat (rArg tx c i).2.1) (Int32.ofNat c) N') σ) ∧
      ((rArg tx c i).1 = true → (rArg tx c i).2.2.1 = c ∧ (1 ≤ nNum c → N' 0 = Int32.ofNat (rArg tx c i).2.2.2.1) ∧ (nNum c = 2 → N' 1 = Int32.ofNat (rArg tx c i).2.2.2.2)) := by
  obtain ⟨f, hf⟩ : ∃ f, F = f + 3 := ⟨F - 3, by omega⟩
  unfold rArg
  simp only
  rw [f_X6_readCommand_51]
  by_cases n0 : nNum c = 0
  · rw [if_pos n0, n0]
    have := q_fin (κ := κ) (F := F) (m := m) (V := V) (σ := σ) (a := 0) (c := Int32.ofNat c) (N := N) h hm hF hi (f + 2)
    rw [← hf] at this
    exact ⟨N, this, fun _ => ⟨rfl, fun e => by omega, fun e => by omega⟩⟩
  · rw [if_neg n0]
    obtain ⟨N1, a1, a2, a3⟩ := q_readNumber (κ := κ) (F := F) (m := m) (V := V) (σ := σ) (w := 0) (c := Int32.ofNat c) (N := N) h hm hF (by omega) hi
    have hle := rNum_le hi
    have h2 : nNum c = 1 ∨ nNum c = 2 := by
      unfold nNum at n0 ⊢
      split
      · exact Or.inr rfl
      · split
        · exact Or.inl rfl
        · rename_i c1 c2
          rw [if_neg c1, if_neg c2] at n0
          exact absurd rfl n0
    have hlt : ¬ Int32.ofNat (nNum c) ≤ (0 : Int32) := by
      rw [show (0 : Int32) = Int32.ofNat 0 from rfl, i3_le (by omega) (by omega)]
      omega
    have st : ∀ N2 : mR, ∀ i2, f_X6_readCommand_54 κ F F (some m) (Int32.ofNat (nNum c)) (0 : Int32) (MH m (pV V (Int32.ofNat i2) (Int32.ofNat c) N2) σ) = gB2 (f_X6_readNumber κ F (some m) (Int32.ofNat 0) (MH m (pV V (Int32.ofNat i2) (Int32.ofNat c) N2) σ)) (fun v8 s7 => if v8 = 0 then gB1 (gok .boolean (0 : Int32)) fun _ => some ((0 : Int32), s7) else f_X6_readCommand_54 κ F (f + 2) (some m) (Int32.ofNat (nNum c)) (Int32.ofNat 1) s7) := fun N2 i2 => by
      rw [show f_X6_readCommand_54 κ F F = f_X6_readCommand_54 κ F (f + 2 + 1) from by rw [hf], f_X6_readCommand_54, f_X6_readCommand_54b, if_neg hlt, MH_ck, gB1_s]
      rfl
    rw [st, a1, gB2_s]
    cases hx : (rNum tx i).1 with
    | false =>
      simp only [Bool.false_eq_true, if_false, if_true, eq_self, gok_z0, gB1_s]
      exact ⟨N1, rfl, fun e => (by cases e)⟩
    | true =>
      simp only [if_true, i10, if_false]
      have a2 := a2 hx
      rcases h2 with n1 | n1
      · rw [if_pos n1, n1]
        have := q_fin (κ := κ) (F := F) (m := m) (V := V) (σ := σ) (a := 1) (c := Int32.ofNat c) (N := N1) h hm hF hle.2 (f + 1)
        exact ⟨N1, this, fun _ => ⟨rfl, fun _ => a2, fun e => by omega⟩⟩
      · rw [if_neg (show ¬ nNum c = 1 from by omega), n1]
        obtain ⟨N2, b1, b2, b3⟩ := q_readNumber (κ := κ) (F := F) (m := m) (V := V) (σ := σ) (w := 1) (c := Int32.ofNat c) (N := N1) h hm hF (by omega) hle.2
        have hle2 := rNum_le hle.2
        rw [show f_X6_readCommand_54 κ F (f + 2) = f_X6_readCommand_54 κ F (f + 1 + 1) from rfl, f_X6_readCommand_54, f_X6_readCommand_54b, if_neg (by decide), MH_ck, gB1_s, b1, gB2_s]
        cases hy : (rNum tx (rNum tx i).2.1).1 with
        | false =>
          simp only [Bool.false_eq_true, if_false, if_true, eq_self, gok_z0, gB1_s]
          exact ⟨N2, rfl, fun e => (by cases e)⟩
        | true =>
          simp only [if_true, i10, if_false]
          have := q_fin (κ := κ) (F := F) (m := m) (V := V) (σ := σ) (a := 2) (c := Int32.ofNat c) (N := N2) h hm hF hle2.2 f
          exact ⟨N2, this, fun _ => ⟨rfl, fun _ => by rw [b3 0 (by decide)]; exact a2, fun _ => b2 hy⟩⟩
theorem q_readCommand {tx : List Int32} (h : TX V tx) (hm : κ.1 ≤ m) (hF : 200 ≤ F) {i : Nat} {c : Int32} {N : mR} (hi : i ≤ tx.length) :
    ∃ c' N', f_X6_readCommand κ F (some m) (MH m (pV V (Int32.ofNat i) c N) σ) = some (if (rCmd tx i).1 then 1 else 0, MH m (pV V (Int32.ofNat (rCmd tx i).2.1) c' N') σ) ∧
      ((rCmd tx i).1 = true → c' = Int32.ofNat (rCmd tx i).2.2.1 ∧ 1 ≤ (rCmd tx i).2.2.1 ∧ (rCmd tx i).2.2.1 ≤ 7 ∧ (1 ≤ nNum (rCmd tx i).2.2.1 → N' 0 = Int32.ofNat (rCmd tx i).2.2.2.1) ∧ (nNum (rCmd tx i).2.2.1 = 2 → N' 1 = Int32.ofNat (rCmd tx i).2.2.2.2)) := by
  unfold rCmd
  simp only
  have hj := skT_ge (a := 97) (b := 122) hi
  have h7 := cmdW_le (wd tx i (skT tx 97 122 i - i))
  rw [f_X6_readCommand, f_X6_readCommand_0, MH_ck, gB1_s, q_readWord h hm hF hi, gB2_s]
  obtain ⟨cm, hcm⟩ : ∃ cm, cmdW (wd tx i (skT tx 97 122 i - i)) = cm := ⟨_, rfl⟩
  simp only [hcm]
  rw [hcm] at h7
  by_cases c0 : cm = 0
  · rw [if_pos c0, if_pos rfl, if_pos c0, if_pos c0, gok_z0, gB1_s]
    exact ⟨_, N, rfl, fun e => (by cases e)⟩
  · rw [if_neg c0, if_neg (by decide), if_neg c0, if_neg c0, MH_vcm, gB1_s, vcm_pV]
    obtain ⟨N', a1, a2⟩ := q_rArg (κ := κ) (F := F) (m := m) (V := V) (σ := σ) (c := cm) (N := N) h hm hF hj.2
    refine ⟨Int32.ofNat cm, N', ?_, fun e => ?_⟩
    · rw [← a1]
      have lit : ∀ k : Nat, k < 10 → ∀ z : Int32, z = Int32.ofNat k → (Int32.ofNat cm = z) = (cm = k) := fun k hk z hz => by rw [hz]; exact propext (i3_inj (by omega) (by omega))
      simp only [lit 2 (by omega) 2 rfl, lit 3 (by omega) 3 rfl, lit 4 (by omega) 4 rfl, lit 7 (by omega) 7 rfl, MH_vcm, gB1_s, vcm_pV, f_X6_readCommand_46]
      unfold nNum
      by_cases c2 : cm = 2
      · rw [if_pos c2, if_pos c2]; rfl
      · rw [if_neg c2, if_neg c2]
        by_cases c3 : cm = 3
        · rw [if_pos c3, if_pos (Or.inl c3)]; rfl
        · rw [if_neg c3]
          by_cases c4 : cm = 4
          · rw [if_pos c4, if_pos (Or.inr (Or.inl c4))]; rfl
          · rw [if_neg c4]
            by_cases c7 : cm = 7
            · rw [if_pos c7, if_pos (Or.inr (Or.inr c7))]; rfl
            · rw [if_neg c7, if_neg (fun h => h.elim c3 (fun h => h.elim c4 c7))]; rfl
    · obtain ⟨e1, e2, e3⟩ := a2 e
      rw [e1]
      exact ⟨rfl, by omega, h7, e2, e3⟩
end Q
