set_option maxRecDepth 100000
/-! the component's text: a command -/
section C
variable {κ : gK} {F : Nat} {σ : gS} {ω : Nat → Nat} {o x nb i : Nat} {ft : Int32} {w : Value} {N : Nat → Int32} {tx : List Int32}
theorem sk32 (hi : i ≤ tx.length) : isC tx 32 32 i = decide (i < skT tx 32 32 i) := by
  rw [skT_eq]
  cases h : isC tx 32 32 i with
  | false => rw [if_neg (show ¬ (false = true) by decide), decide_eq_false (Nat.lt_irrefl _)]
  | true =>
    have h1 := isC_lt h
    have := skT_ge (tx := tx) (a := 32) (b := 32) (i := i + 1) (by omega)
    rw [if_pos rfl, decide_eq_true (by omega)]
/-- the end of a command -/
theorem t_fin (hF : 200 ≤ F) (h : TT κ σ ω o x nb i ft w N) (hc : CM κ σ ω o tx) (hi : i ≤ tx.length) (k88 : Option Nat → Int32 → Int32 → gS → Option (Int32 × gS)) {m k : Nat} (hmk : m ≤ k) (hk : k < 10) : ∃ σ', f_X11_readCommand_88b κ F k88 (some x) (Int32.ofNat m) (Int32.ofNat k) σ = some (if (rFin tx i).1 then 1 else 0, σ') ∧ ext n78 0 0 σ ω σ' ω ∧ TT κ σ' ω o x nb (rFin tx i).2 ft w N := by
  have h150 := hc.1
  have l3 := skT_ge (tx := tx) (a := 32) (b := 32) hi
  obtain ⟨S1, s1, e1, h1⟩ := t_spaces (F := F) hF h hc hi
  have hc1 := CM_mv hc e1 (by decide) (by decide)
  have hA := t_isAt (F := F) h1 hc1 l3.2 (a := 59) (b := 59) (by omega) (by omega)
  rw [f_X11_readCommand_88b, if_pos (by rw [i3_le (by omega) (by omega)]; exact hmk), tt_ck h, gB1_s, s1, gB2_s, tt_ck h1, gB1_s, show (59 : Int32) = Int32.ofNat 59 from rfl, hA, gB2_s, tt_at h1, gB1_s]
  unfold rFin
  cases hx : isC tx 59 59 (skT tx 32 32 i) with
  | false =>
    obtain ⟨S2, s2, e2, h2⟩ := tt_set h1 (skT tx 32 32 i)
    refine ⟨S2, ?_, ext_mono (ext_trans (e7_78 e1) (e7_78 e2)) (fun _ h => h) (by omega) (by omega), h2⟩
    rw [if_neg (show ¬ (false = true) by decide), if_pos rfl, f_X11_readCommand_149, show Int32.ofNat (skT tx 32 32 i) + (0 : Int32) = Int32.ofNat (skT tx 32 32 i) from Int32.add_zero _, s2, gB1_s, gok_z0, gB1_s]
    rfl
  | true =>
    obtain ⟨S2, s2, e2, h2⟩ := tt_set h1 (skT tx 32 32 i + 1)
    refine ⟨S2, ?_, ext_mono (ext_trans (e7_78 e1) (e7_78 e2)) (fun _ h => h) (by omega) (by omega), h2⟩
    rw [if_pos rfl, if_neg (by decide), f_X11_readCommand_149, i3_s, s2, gB1_s, gok_z1, gB1_s]
    rfl
/-- a number of a command -/
theorem t_arg (hF : 200 ≤ F) (h : TT κ σ ω o x nb i ft w N) (hc : CM κ σ ω o tx) (hi : i ≤ tx.length) (k88 : Option Nat → Int32 → Int32 → gS → Option (Int32 × gS)) {m k : Nat} (hmk : k < m) (hm : m ≤ 2) : ∃ σ' N', f_X11_readCommand_88b κ F k88 (some x) (Int32.ofNat m) (Int32.ofNat k) σ = (if (rNum tx i).1 = true ∧ isC tx 48 57 (rNum tx i).2.1 = false then k88 (some x) (Int32.ofNat m) (Int32.ofNat (k + 1)) σ' else some (0, σ')) ∧ ext n78 0 0 σ ω σ' ω ∧ TT κ σ' ω o x nb (rNum tx i).2.1 ft w N' ∧ ((rNum tx i).1 = true → N' k = Int32.ofNat (rNum tx i).2.2) ∧ ∀ q, q ≠ k → N' q = N q := by
  have h150 := hc.1
  have l3 := skT_ge (tx := tx) (a := 32) (b := 32) hi
  obtain ⟨S1, s1, e1, h1⟩ := t_spaces (F := F) hF h hc hi
  have hc1 := CM_mv hc e1 (by decide) (by decide)
  have hs := sk32 (tx := tx) hi
  rw [f_X11_readCommand_88b, if_neg (by rw [i3_le (by omega) (by omega)]; omega), tt_ck h, gB1_s, s1, gB2_s]
  by_cases hx : i < skT tx 32 32 i
  · obtain ⟨S2, N2, s2, e2, h2, h3, h4⟩ := t_readNumber (F := F) hF (show k < 2 by omega) h1 hc1 l3.2
    have hR : rNum tx i = (decide (skT tx 32 32 i < dgE tx (skT tx 32 32 i)), dgE tx (skT tx 32 32 i), nmV tx (skT tx 32 32 i) (dgE tx (skT tx 32 32 i) - skT tx 32 32 i)) := by rw [rNum, hs, decide_eq_true hx, if_pos rfl]
    rw [hR]
    refine ⟨S2, N2, ?_, ext_mono (ext_trans (e7_78 e1) e2) (fun _ h => h) (by omega) (by omega), h2, (fun _ => h3), h4⟩
    rw [if_pos hx, if_neg (by decide), tt_ck h1, gB1_s, s2, gB2_s, i3_s]
    by_cases hy : skT tx 32 32 i < dgE tx (skT tx 32 32 i) ∧ isC tx 48 57 (dgE tx (skT tx 32 32 i)) = false
    · rw [if_pos hy, if_neg (by decide), if_pos ⟨decide_eq_true hy.1, hy.2⟩]
    · rw [if_neg hy, if_pos rfl, if_neg (fun h => hy ⟨of_decide_eq_true h.1, h.2⟩), f_X11_readCommand_110, gok_z0, gB1_s]
  · have he : skT tx 32 32 i = i := by omega
    have hR : rNum tx i = (false, i, 0) := by rw [rNum, hs, decide_eq_false hx, if_neg (show ¬ (false = true) by decide)]
    rw [he] at h1
    rw [hR]
    refine ⟨S1, N, ?_, e7_78 e1, h1, (fun e => by cases e), fun _ _ => rfl⟩
    rw [if_neg hx, if_pos rfl, if_neg (fun h => by cases h.1), f_X11_readCommand_110, gok_z0, gB1_s]
theorem rArg_0 {c : Nat} (hn : nNum c = 0) : rArg tx c i = rEnd tx c 0 0 i := by rw [rArg, if_pos hn]
theorem rArg_1 {c : Nat} (hn : nNum c = 1) : rArg tx c i = if (rNum tx i).1 then rEnd tx c (rNum tx i).2.2 0 (rNum tx i).2.1 else (false, (rNum tx i).2.1, 0, 0, 0) := by
  rw [rArg, if_neg (by omega)]
  simp only
  rw [if_pos hn]
theorem rArg_2 {c : Nat} (hn : nNum c = 2) : rArg tx c i = if (rNum tx i).1 then (if (rNum tx (rNum tx i).2.1).1 then rEnd tx c (rNum tx i).2.2 (rNum tx (rNum tx i).2.1).2.2 (rNum tx (rNum tx i).2.1).2.1 else (false, (rNum tx (rNum tx i).2.1).2.1, 0, 0, 0)) else (false, (rNum tx i).2.1, 0, 0, 0) := by
  rw [rArg, if_neg (by omega)]
  simp only
  rw [if_neg (show ¬ nNum c = 1 by omega)]
theorem no_sp {a : Nat} (h : isC tx 48 57 a = true) : isC tx 32 32 a = false ∧ skT tx 32 32 a = a ∧ isC tx 59 59 a = false := by
  obtain ⟨h1, h2, h3⟩ := isC_iff.mp h
  have e1 : isC tx 32 32 a = false := by
    cases hx : isC tx 32 32 a with
    | false => rfl
    | true => obtain ⟨g1, g2, g3⟩ := isC_iff.mp hx; omega
  have e2 : isC tx 59 59 a = false := by
    cases hx : isC tx 59 59 a with
    | false => rfl
    | true => obtain ⟨g1, g2, g3⟩ := isC_iff.mp hx; omega
  exact ⟨e1, by rw [skT_eq, e1, if_neg (show ¬ (false = true) by decide)], e2⟩
/-- the numbers and the end -/
theorem t_args (hF : 200 ≤ F) (h : TT κ σ ω o x nb i ft w N) (hc : CM κ σ ω o tx) (hi : i ≤ tx.length) {c : Nat} : ∃ σ' N', f_X11_readCommand_88 κ F F (some x) (Int32.ofNat (nNum c)) (0 : Int32) σ = some (if (rArg tx c i).1 then 1 else 0, σ') ∧ ext n78 0 0 σ ω σ' ω ∧ TT κ σ' ω o x nb (rArg tx c i).2.1 ft w N' ∧ ((rArg tx c i).1 = true → (rArg tx c i).2.2.1 = c ∧ (1 ≤ nNum c → N' 0 = Int32.ofNat (rArg tx c i).2.2.2.1) ∧ (nNum c = 2 → N' 1 = Int32.ofNat (rArg tx c i).2.2.2.2)) := by
  obtain ⟨f3, hf3⟩ : ∃ f, F = f + 3 := ⟨F - 3, by omega⟩
  have u0 : ∀ (k m : Nat) (S : gS), f_X11_readCommand_88 κ F (k + 1) (some x) (Int32.ofNat m) (0 : Int32) S = f_X11_readCommand_88b κ F (f_X11_readCommand_88 κ F k) (some x) (Int32.ofNat m) (Int32.ofNat 0) S := fun k m S => by rw [f_X11_readCommand_88]; rfl
  have u1 : ∀ (k m j : Nat) (S : gS), f_X11_readCommand_88 κ F (k + 1) (some x) (Int32.ofNat m) (Int32.ofNat j) S = f_X11_readCommand_88b κ F (f_X11_readCommand_88 κ F k) (some x) (Int32.ofNat m) (Int32.ofNat j) S := fun k m j S => by rw [f_X11_readCommand_88]
  have hst : f_X11_readCommand_88 κ F F (some x) (Int32.ofNat (nNum c)) (0 : Int32) σ = f_X11_readCommand_88b κ F (f_X11_readCommand_88 κ F (f3 + 2)) (some x) (Int32.ofNat (nNum c)) (Int32.ofNat 0) σ := by
    rw [← u0 (f3 + 2), ← hf3]
  rw [hst]
  have hn : nNum c = 0 ∨ nNum c = 1 ∨ nNum c = 2 := by
    unfold nNum
    split
    · omega
    · split <;> omega
  rcases hn with hn | hn | hn
  · obtain ⟨S1, q1, q2, q3⟩ := t_fin hF h hc hi (f_X11_readCommand_88 κ F (f3 + 2)) (m := nNum c) (k := 0) (by omega) (by omega)
    rw [rArg_0 hn]
    exact ⟨S1, N, q1, q2, q3, fun _ => ⟨rfl, (fun h => by omega), (fun h => by omega)⟩⟩
  · obtain ⟨S1, N1, q1, q2, q3, q4, q5⟩ := t_arg hF h hc hi (f_X11_readCommand_88 κ F (f3 + 2)) (m := nNum c) (k := 0) (by omega) (by omega)
    have hl := rNum_le hi
    rw [q1]
    cases hr : (rNum tx i).1 with
    | false =>
      have hR : rArg tx c i = (false, (rNum tx i).2.1, 0, 0, 0) := by rw [rArg_1 hn, hr]; rfl
      rw [if_neg (fun h => by cases h.1), hR]
      exact ⟨S1, N1, rfl, q2, q3, (fun h => by cases h)⟩
    | true =>
      have hR : rArg tx c i = rEnd tx c (rNum tx i).2.2 0 (rNum tx i).2.1 := by rw [rArg_1 hn, hr]; rfl
      cases hd : isC tx 48 57 (rNum tx i).2.1 with
      | true =>
        obtain ⟨d1, d2, d3⟩ := no_sp hd
        rw [if_neg (fun h => by cases h.2)]
        have hE : rArg tx c i = (false, (rNum tx i).2.1, c, (rNum tx i).2.2, 0) := by
          rw [hR]; unfold rEnd rFin; rw [d2, d3]; rfl
        rw [hE]
        exact ⟨S1, N1, rfl, q2, q3, (fun h => by cases h)⟩
      | false =>
        obtain ⟨S2, r1, r2, r3⟩ := t_fin hF q3 (CM_mv hc q2 (by unfold n78; omega) (by unfold n78; omega)) hl.2 (f_X11_readCommand_88 κ F (f3 + 1)) (m := nNum c) (k := 1) (by omega) (by omega)
        rw [if_pos ⟨rfl, rfl⟩, u1 (f3 + 1), r1, hR]
        exact ⟨S2, N1, rfl, ext_mono (ext_trans q2 r2) (fun _ h => h) (by omega) (by omega), r3, fun _ => ⟨rfl, (fun _ => q4 hr), (fun h => by omega)⟩⟩
  · obtain ⟨S1, N1, q1, q2, q3, q4, q5⟩ := t_arg hF h hc hi (f_X11_readCommand_88 κ F (f3 + 2)) (m := nNum c) (k := 0) (by omega) (by omega)
    have hl := rNum_le hi
    rw [q1]
    cases hr : (rNum tx i).1 with
    | false =>
      have hR : rArg tx c i = (false, (rNum tx i).2.1, 0, 0, 0) := by rw [rArg_2 hn, hr]; rfl
      rw [if_neg (fun h => by cases h.1), hR]
      exact ⟨S1, N1, rfl, q2, q3, (fun h => by cases h)⟩
    | true =>
      cases hd : isC tx 48 57 (rNum tx i).2.1 with
      | true =>
        obtain ⟨d1, d2, d3⟩ := no_sp hd
        rw [if_neg (fun h => by cases h.2)]
        have hE : rNum tx (rNum tx i).2.1 = (false, (rNum tx i).2.1, 0) := by
          rw [rNum, if_neg (by rw [d1]; decide)]
        have hR : rArg tx c i = (false, (rNum tx i).2.1, 0, 0, 0) := by rw [rArg_2 hn, hr, if_pos rfl, hE]; rfl
        rw [hR]
        exact ⟨S1, N1, rfl, q2, q3, (fun h => by cases h)⟩
      | false =>
        have hc1 := CM_mv hc q2 (by unfold n78; omega) (by unfold n78; omega)
        obtain ⟨S2, N2, r1, r2, r3, r4, r5⟩ := t_arg hF q3 hc1 hl.2 (f_X11_readCommand_88 κ F (f3 + 1)) (m := nNum c) (k := 1) (by omega) (by omega)
        have hl2 := rNum_le hl.2
        have E2 : ext n78 0 0 σ ω S2 ω := ext_mono (ext_trans q2 r2) (fun _ h => h) (by omega) (by omega)
        rw [if_pos ⟨rfl, rfl⟩, u1 (f3 + 1), r1]
        cases hr2 : (rNum tx (rNum tx i).2.1).1 with
        | false =>
          have hR : rArg tx c i = (false, (rNum tx (rNum tx i).2.1).2.1, 0, 0, 0) := by rw [rArg_2 hn, hr, if_pos rfl, hr2]; rfl
          rw [if_neg (fun h => by cases h.1), hR]
          exact ⟨S2, N2, rfl, E2, r3, (fun h => by cases h)⟩
        | true =>
          have hR : rArg tx c i = rEnd tx c (rNum tx i).2.2 (rNum tx (rNum tx i).2.1).2.2 (rNum tx (rNum tx i).2.1).2.1 := by rw [rArg_2 hn, hr, if_pos rfl, hr2]; rfl
          cases hd2 : isC tx 48 57 (rNum tx (rNum tx i).2.1).2.1 with
          | true =>
            obtain ⟨d1, d2, d3⟩ := no_sp hd2
            rw [if_neg (fun h => by cases h.2)]
            have hE : rArg tx c i = (false, (rNum tx (rNum tx i).2.1).2.1, c, (rNum tx i).2.2, (rNum tx (rNum tx i).2.1).2.2) := by
              rw [hR]; unfold rEnd rFin; rw [d2, d3]; rfl
            rw [hE]
            exact ⟨S2, N2, rfl, E2, r3, (fun h => by cases h)⟩
          | false =>
            obtain ⟨S3, t1, t2, t3⟩ := t_fin hF r3 (CM_mv hc1 r2 (by unfold n78; omega) (by unfold n78; omega)) hl2.2 (f_X11_readCommand_88 κ F f3) (m := nNum c) (k := 2) (by omega) (by omega)
            rw [if_pos ⟨rfl, rfl⟩, u1 f3, t1, hR]
            exact ⟨S3, N2, rfl, ext_mono (ext_trans E2 t2) (fun _ h => h) (by omega) (by omega), t3, fun _ => ⟨rfl, (fun _ => by rw [r5 0 (by omega)]; exact q4 hr), (fun _ => r4 hr2)⟩⟩
end C
