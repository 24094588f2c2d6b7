set_option maxRecDepth 100000
/-! the component's text: reading characters and numbers -/
def tT (x : Nat) : Prop := 7 ≤ x ∧ x ≤ 15
/-- a text in the heap: where it is, its fault, its word, its numbers -/
def TT (κ : gK) (σ : gS) (ω : Nat → Nat) (o x nb i : Nat) (ft : Int32) (w : Value) (N : Nat → Int32) : Prop := oc κ σ ω 7 x (.inr (8, [.int (Int32.ofNat i), .int ft, w, .ref nb, .ref o])) ∧ oc κ σ ω 8 nb (.inl (0, 2, .inl N))
/-- the typed characters, in the heap -/
def CM (κ : gK) (σ : gS) (ω : Nat → Nat) (o : Nat) (tx : List Int32) : Prop := tx.length ≤ 150 ∧ (∀ c ∈ tx, 0 ≤ c ∧ c ≤ 127) ∧ ∃ g sv cm fc, oc κ σ ω 1 o (.inr (0, [g, sv, .ref cm, .int (Int32.ofNat tx.length)])) ∧ oc κ σ ω 4 cm (.inl (2, 150, .inl fc)) ∧ ∀ i, i < tx.length → fc i = tx.getD i 0
section C
variable {κ : gK} {F : Nat} {σ : gS} {ω : Nat → Nat} {o x nb i : Nat} {ft : Int32} {w : Value} {N : Nat → Int32} {tx : List Int32}
theorem TT_mv {T : Nat → Prop} {n m : Nat} {σ1 : gS} {ω1 : Nat → Nat} (h : TT κ σ ω o x nb i ft w N) (e : ext T n m σ ω σ1 ω1) (h7 : ¬ T 7) (h8 : ¬ T 8) : TT κ σ1 ω1 o x nb i ft w N := ⟨oc_mv h.1 e h7, oc_mv h.2 e h8⟩
theorem CM_mv {T : Nat → Prop} {n m : Nat} {σ1 : gS} {ω1 : Nat → Nat} (h : CM κ σ ω o tx) (e : ext T n m σ ω σ1 ω1) (h1 : ¬ T 1) (h4 : ¬ T 4) : CM κ σ1 ω1 o tx := by
  obtain ⟨a1, a2, g, sv, cm, fc, b1, b2, b3⟩ := h
  exact ⟨a1, a2, g, sv, cm, fc, oc_mv b1 e h1, oc_mv b2 e h4, b3⟩
theorem km_CM {B : Nat → Nat} {bd n : Nat} {S : aS} (h : KM κ B bd σ ω o S) (hw : WS n S) : CM κ σ ω o S.2.2 := by
  obtain ⟨t, g, c, sv, cm, fc, L, h1, h2, h3, h4, h5, h6, h7, h8, h9, h10⟩ := h
  exact ⟨hw.2.2.2.1, hw.2.2.2.2, _, _, cm, fc, h1, h7, h8⟩
theorem tt_at (h : TT κ σ ω o x nb i ft w N) : gfI σ (some x) 8 0 = some (Int32.ofNat i) := by rw [gfI_u, h.1.1]; rfl
theorem tt_ft (h : TT κ σ ω o x nb i ft w N) : gfI σ (some x) 8 1 = some ft := by rw [gfI_u, h.1.1]; rfl
theorem tt_nb (h : TT κ σ ω o x nb i ft w N) : gfR σ (some x) 8 3 = some (some nb) := by rw [gfR_u, h.1.1]; rfl
theorem tt_o (h : TT κ σ ω o x nb i ft w N) : gfR σ (some x) 8 4 = some (some o) := by rw [gfR_u, h.1.1]; rfl
theorem tt_ck (h : TT κ σ ω o x nb i ft w N) : gck σ (some x) 8 = some () := by rw [gck_u, h.1.1]; rfl
theorem cm_len (h : CM κ σ ω o tx) : gfI σ (some o) 0 3 = some (Int32.ofNat tx.length) := by
  obtain ⟨a1, a2, g, sv, cm, fc, b1, b2, b3⟩ := h
  rw [gfI_u, b1.1]; rfl
theorem chN_eq (h : ∀ c ∈ tx, 0 ≤ c ∧ c ≤ 127) (hi : i < tx.length) : tx.getD i 0 = Int32.ofNat (chN tx i) ∧ chN tx i < 128 := by
  have hm : tx.getD i 0 ∈ tx := by rw [List.getD_eq_getElem?_getD, List.getElem?_eq_getElem hi]; exact List.getElem_mem hi
  obtain ⟨h1, h2⟩ := h _ hm
  unfold chN
  generalize tx.getD i 0 = v at h1 h2
  have h1' : (0 : Int) ≤ v.toInt := by have := Int32.le_iff_toInt_le.mp h1; simpa using this
  have h2' : v.toInt ≤ 127 := by have := Int32.le_iff_toInt_le.mp h2; simpa using this
  obtain ⟨k, hk⟩ : ∃ k : Nat, v.toInt = (k : Int) := ⟨v.toInt.toNat, by omega⟩
  have e : v = Int32.ofNat k := by
    apply Int32.toInt_inj.mp
    rw [hk, Int32.toInt_ofNat_small (by omega)]
  rw [e, (i3_ok (by omega)).2]
  exact ⟨rfl, by omega⟩
/-- the character at a place -/
theorem cm_ch (h : CM κ σ ω o tx) (hi : i < tx.length) : ∃ cm, gfR σ (some o) 0 2 = some (some cm) ∧ gaI σ (some cm) 2 (Int32.ofNat i) = some (Int32.ofNat (chN tx i)) ∧ chN tx i < 128 := by
  obtain ⟨a1, a2, g, sv, cm, fc, b1, b2, b3⟩ := h
  obtain ⟨c1, c2⟩ := chN_eq a2 hi
  refine ⟨cm, by rw [gfR_u, b1.1]; rfl, ?_, c2⟩
  rw [gaI_u, b2.1, gai9_s (by omega) (by omega), b3 i hi, c1]
theorem inR_ofNat {c a b : Nat} (hc : c < 1000) (ha : a < 1000) (hb : b < 1000) : inR (Int32.ofNat c) (Int32.ofNat a) (Int32.ofNat b) = (decide (a ≤ c) && decide (c ≤ b)) := by
  unfold inR
  have e1 : (Int32.ofNat a ≤ Int32.ofNat c) ↔ a ≤ c := i3_le (by omega) (by omega)
  have e2 : (Int32.ofNat c ≤ Int32.ofNat b) ↔ c ≤ b := i3_le (by omega) (by omega)
  simp only [e1, e2, Bool.decide_and]
theorem t_isAt (h : TT κ σ ω o x nb i ft w N) (hc : CM κ σ ω o tx) (hi : i ≤ tx.length) {a b : Nat} (ha : a < 1000) (hb : b < 1000) : f_X11_isAt κ F (some x) (Int32.ofNat a) (Int32.ofNat b) σ = some (if isC tx a b i then 1 else 0, σ) := by
  have h150 := hc.1
  rw [f_X11_isAt, f_X11_isAt_0, tt_at h, gB1_s, tt_o h, gB1_s, cm_len hc, gB1_s]
  by_cases e : tx.length ≤ i
  · have hn : isC tx a b i = false := by
      cases hx : isC tx a b i with
      | false => rfl
      | true => have := isC_lt hx; omega
    rw [if_pos (by rw [i3_le (by omega) (by omega)]; exact e), f_X11_isAt_41, f_X11_isAt_42, gok_z0, gB1_s, hn]
    rfl
  · obtain ⟨cm, c1, c2, c3⟩ := cm_ch hc (i := i) (by omega)
    have hn : isC tx a b i = inR (Int32.ofNat (chN tx i)) (Int32.ofNat a) (Int32.ofNat b) := by
      rw [inR_ofNat (by omega) ha hb]
      unfold isC
      rw [decide_eq_true (show i < tx.length by omega), Bool.true_and]
    rw [if_neg (by rw [i3_le (by omega) (by omega)]; exact e), gB1_s, c1, gB1_s, gB1_s, c2, gB1_s, lg_in (a := Int32.ofNat a) (b := Int32.ofNat b) rfl rfl, gB2_s, hn]
    cases inR (Int32.ofNat (chN tx i)) (Int32.ofNat a) (Int32.ofNat b) with
    | false => rfl
    | true => rfl
/-- the place is written -/
theorem tt_set (h : TT κ σ ω o x nb i ft w N) (j : Nat) : ∃ σ', gpf κ σ (some x) 8 0 (.int (Int32.ofNat j)) = some σ' ∧ ext (fun y => y = 7) 0 0 σ ω σ' ω ∧ TT κ σ' ω o x nb j ft w N := by
  have s1 := oc_pf (v := .int (Int32.ofNat j)) h.1 (k := 0) (show 0 < 5 by decide)
  have e1 := oc_ext_up h.1 (.inr (8, [.int (Int32.ofNat j), .int ft, w, .ref nb, .ref o])) (fun x => x = 7) rfl
  exact ⟨_, s1, e1, oc_up h.1 _, oc_mv h.2 e1 (by decide)⟩
theorem e7_tT {n m : Nat} {σ1 : gS} {ω1 : Nat → Nat} (e : ext (fun y => y = 7) n m σ ω σ1 ω1) : ext tT n m σ ω σ1 ω1 := ext_mono e (fun y h => by have h : y = 7 := h; exact ⟨by omega, by omega⟩) (Nat.le_refl _) (Nat.le_refl _)
theorem t_sp5 (i0 : Nat) (hi0 : i0 < 1000) (hw : w = w) : ∀ (d fuel i : Nat) (σ : gS), i0 ≤ i → i ≤ tx.length → tx.length - i = d → d < fuel → TT κ σ ω o x nb i ft w N → CM κ σ ω o tx →
    ∃ σ', f_X11_spaces_5 κ F fuel (some x) (Int32.ofNat i0) σ = some (if i0 < skT tx 32 32 i then 1 else 0, σ') ∧ ext (fun y => y = 7) 0 0 σ ω σ' ω ∧ TT κ σ' ω o x nb (skT tx 32 32 i) ft w N := by
  intro d
  induction d with
  | zero =>
    intro fuel i σ h0 hi hd hf h hc
    have h150 := hc.1
    obtain ⟨f, rfl⟩ : ∃ f, fuel = f + 1 := ⟨fuel - 1, by omega⟩
    have hn : isC tx 32 32 i = false := by
      cases hx : isC tx 32 32 i with
      | false => rfl
      | true => have := isC_lt hx; omega
    have hA := t_isAt (F := F) h hc hi (a := 32) (b := 32) (by omega) (by omega)
    have hk : skT tx 32 32 i = i := by rw [skT_eq, hn, if_neg (show ¬ (false = true) by decide)]
    rw [hk]
    rw [f_X11_spaces_5, f_X11_spaces_5b, tt_ck h, gB1_s, show (32 : Int32) = Int32.ofNat 32 from rfl, hA, gB2_s, hn, if_neg (show ¬ (false = true) by decide), if_pos rfl, tt_at h, gB1_s]
    by_cases e : i0 < i
    · rw [if_neg (by rw [i3_le (by omega) (by omega)]; omega), f_X11_spaces_42, gok_z1, gB1_s, if_pos e]
      exact ⟨σ, rfl, ext_refl _ _ _, h⟩
    · rw [if_pos (by rw [i3_le (by omega) (by omega)]; omega), f_X11_spaces_42, gok_z0, gB1_s, if_neg e]
      exact ⟨σ, rfl, ext_refl _ _ _, h⟩
  | succ d ih =>
    intro fuel i σ h0 hi hd hf h hc
    have h150 := hc.1
    obtain ⟨f, rfl⟩ : ∃ f, fuel = f + 1 := ⟨fuel - 1, by omega⟩
    have hA := t_isAt (F := F) h hc hi (a := 32) (b := 32) (by omega) (by omega)
    rw [f_X11_spaces_5, f_X11_spaces_5b, tt_ck h, gB1_s, show (32 : Int32) = Int32.ofNat 32 from rfl, hA, gB2_s]
    cases hx : isC tx 32 32 i with
    | false =>
      have hk : skT tx 32 32 i = i := by rw [skT_eq, hx, if_neg (show ¬ (false = true) by decide)]
      rw [if_neg (show ¬ (false = true) by decide), if_pos rfl, tt_at h, gB1_s, hk]
      by_cases e : i0 < i
      · rw [if_neg (by rw [i3_le (by omega) (by omega)]; omega), f_X11_spaces_42, gok_z1, gB1_s, if_pos e]
        exact ⟨σ, rfl, ext_refl _ _ _, h⟩
      · rw [if_pos (by rw [i3_le (by omega) (by omega)]; omega), f_X11_spaces_42, gok_z0, gB1_s, if_neg e]
        exact ⟨σ, rfl, ext_refl _ _ _, h⟩
    | true =>
      obtain ⟨S1, s1, e1, h1⟩ := tt_set h (i + 1)
      obtain ⟨S2, r1, r2, r3⟩ := ih f (i + 1) S1 (by omega) (by omega) (by omega) (by omega) h1 (CM_mv hc e1 (by decide) (by decide))
      have hk : skT tx 32 32 i = skT tx 32 32 (i + 1) := by rw [skT_eq, hx, if_pos rfl]
      rw [hk]
      refine ⟨S2, ?_, ext_mono (ext_trans e1 r2) (fun _ h => h) (by omega) (by omega), r3⟩
      rw [if_pos rfl, if_neg (by decide), tt_at h, gB1_s, i3_s, s1, gB1_s]
      exact r1
theorem t_spaces (hF : 200 ≤ F) (h : TT κ σ ω o x nb i ft w N) (hc : CM κ σ ω o tx) (hi : i ≤ tx.length) : ∃ σ', f_X11_spaces κ F (some x) σ = some (if i < skT tx 32 32 i then 1 else 0, σ') ∧ ext (fun y => y = 7) 0 0 σ ω σ' ω ∧ TT κ σ' ω o x nb (skT tx 32 32 i) ft w N := by
  have h150 := hc.1
  rw [f_X11_spaces, f_X11_spaces_0, tt_at h, gB1_s]
  exact t_sp5 i (by omega) rfl (tx.length - i) F i σ (Nat.le_refl _) hi rfl (by omega) h hc
/-- a number is written -/
theorem tt_num (h : TT κ σ ω o x nb i ft w N) {k : Nat} (hk : k < 2) (v : Int32) : ∃ σ', gsI κ σ (some nb) (Int32.ofNat k) v = some σ' ∧ ext (fun y => y = 8) 0 0 σ ω σ' ω ∧ TT κ σ' ω o x nb i ft w (va_up N k v) := by
  have s1 := oc_sI (v := v) h.2 hk (by omega)
  have e1 := oc_ext_up h.2 (.inl (0, 2, .inl (va_up N k v))) (fun x => x = 8) rfl
  exact ⟨_, s1, e1, oc_mv h.1 e1 (by decide), oc_up h.2 _⟩
def n78 (y : Nat) : Prop := y = 7 ∨ y = 8
theorem e7_78 {n m : Nat} {σ1 : gS} {ω1 : Nat → Nat} (e : ext (fun y => y = 7) n m σ ω σ1 ω1) : ext n78 n m σ ω σ1 ω1 := ext_mono e (fun _ h => Or.inl h) (Nat.le_refl _) (Nat.le_refl _)
theorem e8_78 {n m : Nat} {σ1 : gS} {ω1 : Nat → Nat} (e : ext (fun y => y = 8) n m σ ω σ1 ω1) : ext n78 n m σ ω σ1 ω1 := ext_mono e (fun _ h => Or.inr h) (Nat.le_refl _) (Nat.le_refl _)
theorem n78_no {y : Nat} (h7 : y ≠ 7) (h8 : y ≠ 8) : ¬ n78 y := fun h => h.elim h7 h8
/-- digits: as the reference reads them, but a fourth digit is refused at once -/
theorem t_num12 {k j : Nat} (hk : k < 2) (hj : j ≤ tx.length) : ∀ (d n fuel : Nat) (σ : gS) (N : Nat → Int32), n + d = 3 → d < fuel → j + n ≤ tx.length → (∀ q, q < n → isC tx 48 57 (j + q) = true) → skp (isC tx 48 57) (3 - n) (j + n) = dgE tx j → TT κ σ ω o x nb (j + n) ft w N → N k = Int32.ofNat (nmV tx j n) → CM κ σ ω o tx →
    ∃ σ' N', f_X11_readNumber_12 κ F fuel (some x) (Int32.ofNat k) (Int32.ofNat j) σ = some (if j < dgE tx j ∧ isC tx 48 57 (dgE tx j) = false then 1 else 0, σ') ∧ ext n78 0 0 σ ω σ' ω ∧ TT κ σ' ω o x nb (dgE tx j) ft w N' ∧ N' k = Int32.ofNat (nmV tx j (dgE tx j - j)) ∧ ∀ q, q ≠ k → N' q = N q := by
  have fin : ∀ (n : Nat) (σ : gS) (N : Nat → Int32), dgE tx j = j + n → j + n ≤ tx.length → TT κ σ ω o x nb (j + n) ft w N → N k = Int32.ofNat (nmV tx j n) → CM κ σ ω o tx → ∃ σ' N', f_X11_readNumber_77 κ F (some x) (Int32.ofNat j) σ = some (if j < dgE tx j ∧ isC tx 48 57 (dgE tx j) = false then 1 else 0, σ') ∧ ext n78 0 0 σ ω σ' ω ∧ TT κ σ' ω o x nb (dgE tx j) ft w N' ∧ N' k = Int32.ofNat (nmV tx j (dgE tx j - j)) ∧ ∀ q, q ≠ k → N' q = N q := by
    intro n σ N hE hl h hN hc
    have h150 := hc.1
    rw [hE, show j + n - j = n by omega, f_X11_readNumber_77, tt_at h, gB1_s]
    by_cases e : n = 0
    · subst e
      rw [if_pos (by rw [i3_le (by omega) (by omega)]; omega), f_X11_readNumber_100, f_X11_readNumber_101, gok_z0, gB1_s, if_neg (fun e => absurd e.1 (by omega))]
      exact ⟨σ, N, rfl, ext_refl _ _ _, h, hN, fun _ _ => rfl⟩
    · have hA := t_isAt (F := F) h hc hl (a := 48) (b := 57) (by omega) (by omega)
      rw [if_neg (by rw [i3_le (by omega) (by omega)]; omega), tt_ck h, gB1_s, show (48 : Int32) = Int32.ofNat 48 from rfl, show (57 : Int32) = Int32.ofNat 57 from rfl, hA, gB2_s]
      cases hx : isC tx 48 57 (j + n) with
      | false =>
        rw [if_neg (show ¬ (false = true) by decide), if_pos rfl, f_X11_readNumber_101, gok_z1, gB1_s, if_pos ⟨by omega, rfl⟩]
        exact ⟨σ, N, rfl, ext_refl _ _ _, h, hN, fun _ _ => rfl⟩
      | true =>
        rw [if_pos rfl, if_neg (by decide), f_X11_readNumber_100, f_X11_readNumber_101, gok_z0, gB1_s, if_neg (fun e => by cases e.2)]
        exact ⟨σ, N, rfl, ext_refl _ _ _, h, hN, fun _ _ => rfl⟩
  intro d
  induction d with
  | zero =>
    intro n fuel σ N hn hf hl hdig hE h hN hc
    have h150 := hc.1
    obtain ⟨f, rfl⟩ : ∃ f, fuel = f + 1 := ⟨fuel - 1, by omega⟩
    have hn3 : n = 3 := by omega
    subst hn3
    have hE' : dgE tx j = j + 3 := by rw [← hE]; rfl
    obtain ⟨σ', N', r1, r2⟩ := fin 3 σ N hE' hl h hN hc
    have hA := t_isAt (F := F) h hc hl (a := 48) (b := 57) (by omega) (by omega)
    refine ⟨σ', N', ?_, r2⟩
    rw [f_X11_readNumber_12, f_X11_readNumber_12b, tt_ck h, gB1_s, show (48 : Int32) = Int32.ofNat 48 from rfl, show (57 : Int32) = Int32.ofNat 57 from rfl, hA, gB2_s]
    cases hx : isC tx 48 57 (j + 3) with
    | false => rw [if_neg (show ¬ (false = true) by decide), if_pos rfl]; exact r1
    | true =>
      rw [if_pos rfl, if_neg (by decide), tt_at h, gB1_s, if_pos (by rw [L3, i3_add, i3_le (by omega) (by omega)]; omega)]
      exact r1
  | succ d ih =>
    intro n fuel σ N hn hf hl hdig hE h hN hc
    have h150 := hc.1
    obtain ⟨f, rfl⟩ : ∃ f, fuel = f + 1 := ⟨fuel - 1, by omega⟩
    have hA := t_isAt (F := F) h hc hl (a := 48) (b := 57) (by omega) (by omega)
    rw [show 3 - n = (3 - (n + 1)) + 1 by omega, skp] at hE
    rw [f_X11_readNumber_12, f_X11_readNumber_12b, tt_ck h, gB1_s, show (48 : Int32) = Int32.ofNat 48 from rfl, show (57 : Int32) = Int32.ofNat 57 from rfl, hA, gB2_s]
    cases hx : isC tx 48 57 (j + n) with
    | false =>
      rw [hx, if_neg (by decide)] at hE
      rw [if_neg (show ¬ (false = true) by decide), if_pos rfl]
      exact fin n σ N hE.symm hl h hN hc
    | true =>
      rw [hx, if_pos rfl] at hE
      obtain ⟨b1, b2, b3⟩ := isC_iff.mp hx
      obtain ⟨cm, c1, c2, c3⟩ := cm_ch hc b1
      have hlt := nmV_lt (tx := tx) (j := j) (fun _ _ _ => trivial) n hdig
      have hlt' : nmV tx j n < 1000 := by
        have : (10 : Nat) ^ n ≤ 10 ^ 3 := Nat.pow_le_pow_right (by decide) (by omega)
        omega
      have r7 : gaI σ (some nb) 0 (Int32.ofNat k) = some (Int32.ofNat (nmV tx j n)) := by rw [gaI_u, h.2.1, gai9_s hk (by omega), hN]
      obtain ⟨S1, s1, e1, h1⟩ := tt_num h hk (Int32.ofNat (nmV tx j (n + 1)))
      obtain ⟨S2, s2, e2, h2⟩ := tt_set h1 (j + n + 1)
      have c3' := CM_mv (CM_mv hc e1 (by decide) (by decide)) e2 (by decide) (by decide)
      obtain ⟨S3, N3, q1, q2, q3, q4, q5⟩ := ih (n + 1) f S2 (va_up N k (Int32.ofNat (nmV tx j (n + 1)))) (by omega) (by omega) (by omega) (fun q hq => by
        by_cases e : q = n
        · rw [e]; exact hx
        · exact hdig q (by omega)) hE h2 (vup_at _ _ _) c3'
      refine ⟨S3, N3, ?_, ext_mono (ext_trans (e8_78 e1) (ext_trans (e7_78 e2) q2)) (fun _ h => h) (by omega) (by omega), q3, q4, fun q hq => by rw [q5 q hq, vup_ne hq]⟩
      rw [if_pos rfl, if_neg (by decide), tt_at h, gB1_s, if_neg (by rw [L3, i3_add, i3_le (by omega) (by omega)]; omega), tt_nb h, gB1_s, gB1_s, r7, gB1_s, tt_o h, gB1_s, c1, gB1_s, gB1_s, c2, gB1_s]
      rw [show (((10 : Int32) * Int32.ofNat (nmV tx j n)) + Int32.ofNat (chN tx (j + n))) - (Int32.ofNat 48) = Int32.ofNat (nmV tx j (n + 1)) from i3_dig (by omega) (by omega) (by omega), s1, gB1_s, tt_at h1, gB1_s, i3_s, s2, gB1_s]
      exact q1
theorem t_readNumber (hF : 200 ≤ F) {k : Nat} (hk : k < 2) (h : TT κ σ ω o x nb i ft w N) (hc : CM κ σ ω o tx) (hi : i ≤ tx.length) : ∃ σ' N', f_X11_readNumber κ F (some x) (Int32.ofNat k) σ = some (if i < dgE tx i ∧ isC tx 48 57 (dgE tx i) = false then 1 else 0, σ') ∧ ext n78 0 0 σ ω σ' ω ∧ TT κ σ' ω o x nb (dgE tx i) ft w N' ∧ N' k = Int32.ofNat (nmV tx i (dgE tx i - i)) ∧ ∀ q, q ≠ k → N' q = N q := by
  obtain ⟨S1, s1, e1, h1⟩ := tt_num h hk 0
  obtain ⟨S2, N2, q1, q2, q3, q4, q5⟩ := t_num12 (F := F) (tx := tx) hk hi 3 0 F S1 _ (by omega) (by omega) hi (fun q hq => absurd hq (Nat.not_lt_zero _)) rfl h1 (vup_at _ _ _) (CM_mv hc e1 (by decide) (by decide))
  refine ⟨S2, N2, ?_, ext_mono (ext_trans (e8_78 e1) q2) (fun _ h => h) (by omega) (by omega), q3, q4, fun q hq => by rw [q5 q hq, vup_ne hq]⟩
  rw [f_X11_readNumber, f_X11_readNumber_0, tt_at h, gB1_s, tt_nb h, gB1_s, s1, gB1_s]
  exact q1
end C
