set_option maxRecDepth 100000
/-! the component's text: the next command -/
def tX (y : Nat) : Prop := 7 ≤ y ∧ y ≤ 12
theorem tX_no {y : Nat} (h : y < 7 ∨ 12 < y) : ¬ tX y := fun e => by have := e.1; have := e.2; omega
theorem n78_X : ∀ y, n78 y → tX y := fun y h => by rcases h with h | h <;> exact ⟨by omega, by omega⟩
theorem n9_X : ∀ y, n9t y → tX y := fun y h => ⟨by have := h.1; omega, h.2⟩
theorem e7_X : ∀ y, y = 7 → tX y := fun y h => ⟨by omega, by omega⟩
theorem e11_X : ∀ y, e11 y → tX y := fun y h => by have h : y = 11 := h; exact ⟨by omega, by omega⟩
theorem skp_stop {p : Nat → Bool} : ∀ {d i : Nat}, p (skp p d i) = true → skp p d i = i + d
  | 0, i, _ => rfl
  | d + 1, i, h => by
    rw [skp] at h ⊢
    by_cases c : p i = true
    · rw [if_pos c] at h ⊢
      have := skp_stop h
      omega
    · rw [if_neg c] at h
      exact absurd h c
theorem skT_stop (tx : List Int32) (a b i : Nat) : isC tx a b (skT tx a b i) = false := by
  cases hx : isC tx a b (skT tx a b i) with
  | false => rfl
  | true =>
    have h1 := isC_lt hx
    have h2 : skT tx a b i = i + (tx.length - i) := skp_stop (p := isC tx a b) hx
    omega
section C
variable {κ : gK} {F : Nat} {σ : gS} {ω : Nat → Nat} {o x nb i : Nat} {ft : Int32} {w : Value} {N : Nat → Int32} {tx : List Int32}
def pot (cap n : Nat) : Nat := if n ≤ cap then 0 else 4 * n - 2 * cap
/-- the letters of a word -/
theorem t_rc13 {sb : Nat} (hi : i ≤ tx.length) : ∀ (d n fuel cap : Nat) (σ : gS) (ω : Nat → Nat), i + n + d = skT tx 97 122 i → d < fuel → 16 ≤ cap → cap < 400 → (n ≤ 16 → cap = 16) → (cap ≤ 2 * n + 2 ∨ cap = 16) → TT κ σ ω o x nb (i + n) ft w N → CM κ σ ω o tx → SB κ σ ω sb cap (wd tx i n) →
    ∃ σ' ω' cap' nc ns f', f_X11_readCommand_13 κ F fuel (some x) (Int32.ofNat i) (some sb) σ = f_X11_readCommand_13b κ F f' (some x) (Int32.ofNat i) (some sb) σ' ∧ ext tX nc ns σ ω σ' ω' ∧ TT κ σ' ω' o x nb (skT tx 97 122 i) ft w N ∧ CM κ σ' ω' o tx ∧ SB κ σ' ω' sb cap' (wd tx i (skT tx 97 122 i - i)) ∧ ns ≤ pot cap (n + d) ∧ nc ≤ (if n + d ≤ cap then 0 else d) := by
  intro d
  induction d with
  | zero =>
    intro n fuel cap σ ω he hf hc1 hc2 hc3 hc4 h hc hsb
    obtain ⟨f, rfl⟩ : ∃ f, fuel = f + 1 := ⟨fuel - 1, by omega⟩
    rw [show skT tx 97 122 i - i = n by omega, ← he]
    exact ⟨σ, ω, cap, 0, 0, _, by rw [f_X11_readCommand_13], ext_refl _ _ _, h, hc, hsb, Nat.zero_le _, Nat.zero_le _⟩
  | succ d ih =>
    intro n fuel cap σ ω he hf hc1 hc2 hc3 hc4 h hc hsb
    have h150 := hc.1
    obtain ⟨f, rfl⟩ : ∃ f, fuel = f + 1 := ⟨fuel - 1, by omega⟩
    have l3 := skT_ge (tx := tx) (a := 97) (b := 122) hi
    have hx : isC tx 97 122 (i + n) = true := by
      have hlt : i + n < skT tx 97 122 i := by omega
      unfold skT at hlt
      exact skp_in (by omega) hlt
    obtain ⟨b1, b2, b3⟩ := isC_iff.mp hx
    obtain ⟨cm, c1, c2, c3⟩ := cm_ch hc b1
    have hA := t_isAt (F := F) h hc (show i + n ≤ tx.length by omega) (a := 97) (b := 122) (by omega) (by omega)
    have hwl := wd_len tx i n
    obtain ⟨S1, w1, cap1, nc1, ns1, q1, q2, q3, q4⟩ := sb_append (F := F) hsb c3 hc2 (by omega)
    rw [hwl] at q4
    have h1 := TT_mv h q2 (by unfold n9t; omega) (by unfold n9t; omega)
    have hcm1 := CM_mv hc q2 (by unfold n9t; omega) (by unfold n9t; omega)
    obtain ⟨S2, s2, e2, h2⟩ := tt_set h1 (i + n + 1)
    have hcm2 := CM_mv hcm1 e2 (by decide) (by decide)
    have q3' := SB_mv q3 e2 (by decide) (by decide)
    rw [← wd_s] at q3'
    have hcap1 : 16 ≤ cap1 ∧ cap1 < 400 ∧ (n + 1 ≤ 16 → cap1 = 16) ∧ (cap1 ≤ 2 * (n + 1) + 2 ∨ cap1 = 16) := by
      by_cases e : n < cap
      · rw [if_pos e] at q4
        obtain ⟨rfl, _, _⟩ := q4
        exact ⟨hc1, hc2, fun h => hc3 (by omega), hc4.elim (fun h => Or.inl (by omega)) Or.inr⟩
      · rw [if_neg e] at q4
        obtain ⟨r1, rfl, _, _⟩ := q4
        refine ⟨by omega, by omega, fun h => ?_, Or.inl (by omega)⟩
        have := hc3 (by omega); omega
    obtain ⟨S3, w3, cap3, nc3, ns3, f3, r1, r2, r3, r4, r5, r6, r7⟩ := ih (n + 1) f cap1 S2 w1 (by omega) (by omega) hcap1.1 hcap1.2.1 hcap1.2.2.1 hcap1.2.2.2 h2 hcm2 q3'
    refine ⟨S3, w3, cap3, nc1 + nc3, ns1 + ns3, f3, ?_, ext_mono (ext_trans (ext_mono q2 n9_X (Nat.le_refl _) (Nat.le_refl _)) (ext_trans (ext_mono e2 e7_X (Nat.le_refl _) (Nat.le_refl _)) r2)) (fun _ h => h) (by omega) (by omega), r3, r4, r5, ?_, ?_⟩
    · rw [f_X11_readCommand_13, f_X11_readCommand_13b, tt_ck h, gB1_s, show (97 : Int32) = Int32.ofNat 97 from rfl, show (122 : Int32) = Int32.ofNat 122 from rfl, hA, gB2_s, hx, if_pos rfl, if_neg (by decide), tt_o h, gB1_s, c1, gB1_s, tt_at h, gB1_s, c2, gB1_s]
      obtain ⟨vv, zz, ff, g1, _⟩ := hsb
      rw [(sb_f g1).1, gB1_s, ch16 c3, q1, gB2_s, tt_at h1, gB1_s, i3_s, s2, gB1_s]
      exact r1
    · unfold pot at r6 ⊢
      by_cases e : n < cap
      · rw [if_pos e] at q4
        obtain ⟨rfl, rfl, rfl⟩ := q4
        rw [show n + (d + 1) = n + 1 + d by omega]
        omega
      · rw [if_neg e] at q4
        obtain ⟨g1, rfl, rfl, rfl⟩ := q4
        rw [if_neg (show ¬ n + (d + 1) ≤ cap by omega)]
        split at r6 <;> omega
    · by_cases e : n < cap
      · rw [if_pos e] at q4
        obtain ⟨rfl, rfl, rfl⟩ := q4
        by_cases e2 : n + 1 + d ≤ cap1
        · rw [if_pos e2] at r7; rw [if_pos (by omega)]; omega
        · rw [if_neg e2] at r7; rw [if_neg (by omega)]; omega
      · rw [if_neg e] at q4
        obtain ⟨g1, rfl, rfl, rfl⟩ := q4
        rw [if_neg (by omega)]
        split at r7 <;> omega
/-- a command is read -/
theorem t_readCommand (hF : 400 ≤ F) (h : TT κ σ ω o x nb i ft w N) (hc : CM κ σ ω o tx) (hq : KQ κ σ ω) (hi : i ≤ tx.length) : ∃ σ' ω' a N', f_X11_readCommand κ F (some x) σ = some (if (rCmd tx i).1 then 1 else 0, σ') ∧ ext tX (if (rCmd tx i).1 then 4 else 160) (if (rCmd tx i).1 then 40 else 800) σ ω σ' ω' ∧ TT κ σ' ω' o x nb (rCmd tx i).2.1 ft (.ref a) N' ∧ ((rCmd tx i).1 = true → (∃ wl, SQ κ σ' ω' a wl ∧ cmdW wl = (rCmd tx i).2.2.1) ∧ 1 ≤ (rCmd tx i).2.2.1 ∧ (rCmd tx i).2.2.1 ≤ 7 ∧ (1 ≤ nNum (rCmd tx i).2.2.1 → N' 0 = Int32.ofNat (rCmd tx i).2.2.2.1) ∧ (nNum (rCmd tx i).2.2.1 = 2 → N' 1 = Int32.ofNat (rCmd tx i).2.2.2.2)) := by
  have h150 := hc.1
  have l3 := skT_ge (tx := tx) (a := 97) (b := 122) hi
  have hb : κ.1 ≤ σ.2.1 := by have h1' := h.1.2.1; have h2' := h.1.2.2.2; omega
  obtain ⟨sb, S1, w1, n1, n2, e1, n4⟩ := sb_new (κ := κ) (F := F) (σ := σ) (ω := ω) hb
  have h1 := TT_mv h e1 (fun h => h) (fun h => h)
  have hc1 := CM_mv hc e1 (fun h => h) (fun h => h)
  have hq1 := KQ_mv hq e1 (fun h => h)
  obtain ⟨S2, w2, cap, nc, ns, f', r1, e2, r3, r4, r5, r6, r7⟩ := t_rc13 (κ := κ) (F := F) (o := o) (x := x) (nb := nb) (ft := ft) (w := w) (N := N) (sb := sb) hi (skT tx 97 122 i - i) 0 F 16 S1 w1 (by omega) (by omega) (by omega) (by omega) (fun _ => rfl) (Or.inr rfl) h1 hc1 n4
  have hq2 := KQ_mv hq1 e2 (tX_no (by omega))
  have hnx := skT_stop tx 97 122 i
  obtain ⟨vv, zz, ff, g1, _⟩ := id r5
  have hA := t_isAt (F := F) r3 r4 l3.2 (a := 97) (b := 122) (by omega) (by omega)
  obtain ⟨a, v, S3, w3, t1, e3, t3⟩ := t_toString (F := F) r5
  have h3 := TT_mv r3 e3 (fun h => h) (fun h => h)
  have hc3 := CM_mv r4 e3 (fun h => h) (fun h => h)
  have hq3 := KQ_mv hq2 e3 (fun h => h)
  have s4 := oc_pf (v := .ref a) h3.1 (k := 2) (show 2 < 5 by decide)
  have e4 := oc_ext_up h3.1 (.inr (8, [.int (Int32.ofNat (skT tx 97 122 i)), .int ft, .ref a, .ref nb, .ref o])) (fun y => y = 7) rfl
  have p4 := oc_up h3.1 (.inr (8, [.int (Int32.ofNat (skT tx 97 122 i)), .int ft, .ref a, .ref nb, .ref o]))
  have n4 := oc_mv h3.2 e4 (by decide)
  have s4' : gpf κ S3 (some x) 8 2 (va_rf (some a)) = some (gup S3 x (.inr (8, [.int (Int32.ofNat (skT tx 97 122 i)), .int ft, .ref a, .ref nb, .ref o]))) := s4
  have t4 := STR_mv t3 e4 (by decide) (by decide)
  have hc4 := CM_mv hc3 e4 (by decide) (by decide)
  have hq4 := KQ_mv hq3 e4 (by decide)
  generalize gup S3 x (.inr (8, [.int (Int32.ofNat (skT tx 97 122 i)), .int ft, .ref a, .ref nb, .ref o])) = S4 at s4' e4 p4 n4 t4 hc4 hq4
  have h4 : TT κ S4 w3 o x nb (skT tx 97 122 i) ft (.ref a) N := ⟨p4, n4⟩
  have hwl := wd_len tx i (skT tx 97 122 i - i)
  have hok := wd_okW (tx := tx) (i := i) (n := skT tx 97 122 i - i) (fun k hk => by
    have hlt : i + k < skT tx 97 122 i := by omega
    unfold skT at hlt
    exact skp_in (by omega) hlt)
  have hsq : SQ κ S4 w3 a (wd tx i (skT tx 97 122 i - i)) := ⟨v, 0, 0, t4, Or.inl ⟨rfl, rfl⟩, by omega, fun k hk => by
    have hm : (wd tx i (skT tx 97 122 i - i)).getD k 0 ∈ wd tx i (skT tx 97 122 i - i) := by rw [List.getD_eq_getElem?_getD, List.getElem?_eq_getElem hk]; exact List.getElem_mem hk
    have := hok _ hm
    omega⟩
  obtain ⟨S5, n5, e5, q5⟩ := t_numbersOf (F := F) (by omega) hsq hq4
  have h5 := TT_mv h4 e5 (by unfold e11; omega) (by unfold e11; omega)
  have hc5 := CM_mv hc4 e5 (by unfold e11; omega) (by unfold e11; omega)
  have rw4 : gfR S4 (some x) 8 2 = some (some a) := by rw [gfR_u, p4.1]; rfl
  rw [hwl] at e3
  rw [Nat.zero_add] at r6 r7
  generalize hlen : skT tx 97 122 i - i = len at *
  have E5 : ext tX (4 + nc) (24 + ns + len) σ ω S5 w3 := ext_mono (ext_trans (nT_le e1 (Nat.le_refl _) (Nat.le_refl _)) (ext_trans e2 (ext_trans (nT_le e3 (Nat.le_refl _) (Nat.le_refl _)) (ext_trans (ext_mono e4 e7_X (Nat.le_refl _) (Nat.le_refl _)) (ext_mono e5 e11_X (Nat.le_refl _) (Nat.le_refl _)))))) (fun _ h => h) (by omega) (by omega)
  have hpot : pot 16 len ≤ 600 := by unfold pot; split <;> omega
  have hnc : nc ≤ 150 := by split at r7 <;> omega
  have run : f_X11_readCommand κ F (some x) σ = if (if cmdW (wd tx i len) = 0 then (-1000 : Int32) else Int32.ofNat (nNum (cmdW (wd tx i len)))) = (-1000 : Int32) then gB1 (gpf κ S5 (some x) 8 0 (.int (Int32.ofNat i))) (fun s11 => gB1 (gok .boolean (0 : Int32)) fun _ => some ((0 : Int32), s11)) else f_X11_readCommand_88 κ F F (some x) (if cmdW (wd tx i len) = 0 then (-1000 : Int32) else Int32.ofNat (nNum (cmdW (wd tx i len)))) (0 : Int32) S5 := by
    rw [f_X11_readCommand, f_X11_readCommand_0, tt_at h, gB1_s, n1, gB2_s, gsm_s, gB1_s, n2, gB2_s, r1, f_X11_readCommand_13b, tt_ck r3, gB1_s, show (97 : Int32) = Int32.ofNat 97 from rfl, show (122 : Int32) = Int32.ofNat 122 from rfl, hA, gB2_s, hnx, if_neg (show ¬ (false = true) by decide), if_pos rfl, (sb_f g1).1, gB1_s, t1, gB2_s, s4', gB1_s, rw4, gB1_s, n5, gB2_s]
  rw [run]
  have hR : rCmd tx i = if cmdW (wd tx i len) = 0 then (false, i, 0, 0, 0) else rArg tx (cmdW (wd tx i len)) (skT tx 97 122 i) := by rw [← hlen]; rfl
  by_cases hz : cmdW (wd tx i len) = 0
  · obtain ⟨S6, s6, e6, h6⟩ := tt_set h5 i
    rw [hR, if_pos hz, if_pos hz, if_pos rfl, s6, gB1_s, gok_z0, gB1_s]
    refine ⟨S6, w3, a, N, rfl, ?_, h6, fun h => by cases h⟩
    rw [if_neg (show ¬ (false = true) by decide), if_neg (show ¬ (false = true) by decide)]
    exact ext_mono (ext_trans E5 (ext_mono e6 e7_X (Nat.le_refl _) (Nat.le_refl _))) (fun _ h => h) (by omega) (by omega)
  · obtain ⟨S6, N6, s6, e6, h6, h7⟩ := t_args (F := F) (by omega) h5 hc5 l3.2 (c := cmdW (wd tx i len))
    have hn1000 : ¬ (Int32.ofNat (nNum (cmdW (wd tx i len))) = (-1000 : Int32)) := by
      have hn : nNum (cmdW (wd tx i len)) = 0 ∨ nNum (cmdW (wd tx i len)) = 1 ∨ nNum (cmdW (wd tx i len)) = 2 := by
        unfold nNum
        split
        · omega
        · split <;> omega
      rcases hn with e | e | e <;> rw [e] <;> decide
    have hl6 : len ≤ 6 := by
      have hcs := cmdW_cs (wd tx i len)
      rw [← hwl]
      rcases hcs with e | ⟨e, _⟩ | ⟨e, _⟩ | ⟨e, _⟩ | ⟨e, _⟩ | ⟨e, _⟩ | ⟨e, _⟩ | ⟨e, _⟩
      · exact absurd e hz
      all_goals (rw [e]; decide)
    have hns : ns = 0 := by unfold pot at r6; rw [if_pos (by omega)] at r6; omega
    have hnc0 : nc = 0 := by rw [if_pos (by omega)] at r7; omega
    have q6 : SQ κ S6 w3 a (wd tx i len) := by
      obtain ⟨v, hh, z, y1, y2⟩ := q5
      exact ⟨v, hh, z, STR_mv y1 e6 (by unfold n78; omega) (by unfold n78; omega), y2⟩
    rw [hR, if_neg hz, if_neg hz, if_neg hn1000, s6]
    refine ⟨S6, w3, a, N6, rfl, ?_, h6, fun ht => ?_⟩
    · have := ext_mono (ext_trans E5 (ext_mono e6 n78_X (Nat.le_refl _) (Nat.le_refl _))) (fun _ h => h) (show 4 + nc + 0 ≤ 4 by omega) (show 24 + ns + len + 0 ≤ 40 by omega)
      split
      · exact this
      · exact ext_mono this (fun _ h => h) (by omega) (by omega)
    · obtain ⟨y1, y2, y3⟩ := h7 ht
      have hle := cmdW_le (wd tx i len)
      rw [y1]
      exact ⟨⟨_, q6, rfl⟩, by omega, hle, y2, y3⟩
end C
