/-! the reference: splits -/
section Q
variable {κ : gK} {F : Nat} {m : Nat} {V : mV} {σ : gS}
theorem q_splits6 {A : aG} (h : MR0 (vp V) A) {lf : Nat} {l : List (Int32 × Int32)} (hlf : lf < 32) (hls : aSt A lf ≠ 0) (hlp : aPg A lf = .inl l) (h4 : l.length = 4) {a b key v : Int32} {j : Nat} (hj : j ≤ 4) (hjs : ∀ i, i < 4 → ((l.getD i (0, 0)).1 < key ↔ i < j)) :
    ∀ (d fuel k : Nat), k + d = 4 → d < fuel → f_X6_splits_6 κ F fuel (some m) a b (Int32.ofNat lf) key v (Int32.ofNat (min k j)) (Int32.ofNat k) (MH m V σ) = f_X6_splits_43 κ F F (some m) a b (Int32.ofNat lf) key v (Int32.ofNat j) (Int32.ofNat 0) (MH m V σ)
  | 0, fuel, k, hk, hf => by
    obtain ⟨f, rfl⟩ : ∃ f, fuel = f + 1 := ⟨fuel - 1, by omega⟩
    have hk : k = 4 := by omega
    subst hk
    rw [f_X6_splits_6, f_X6_splits_6b, if_pos (by decide), Nat.min_eq_right hj]
    rfl
  | d + 1, fuel, k, hk, hf => by
    obtain ⟨f, rfl⟩ : ∃ f, fuel = f + 1 := ⟨fuel - 1, by omega⟩
    have c4 : ¬ ((4 : Int32) ≤ Int32.ofNat k) := by rw [L4, i3_le (by omega) (by omega)]; omega
    have ih := q_splits6 h hlf hls hlp h4 (a := a) (b := b) (v := v) hj hjs d f (k + 1) (by omega) (by omega)
    obtain ⟨a1, a2, a3, a4⟩ := MR_leaf h hlf hls hlp
    have q1 : f_X6_keyAt κ F (some m) (Int32.ofNat lf) (Int32.ofNat k) (MH m V σ) = some ((l.getD k (0, 0)).1, MH m V σ) := by rw [q_keyAt (by omega), (a4 k (by omega)).1]
    rw [f_X6_splits_6, f_X6_splits_6b, if_neg c4, MH_ck, gB1_s, q1, gB2_s]
    by_cases c : key ≤ (l.getD k (0, 0)).1
    · have hkj : ¬ k < j := fun e => absurd c (Int32.not_le.mpr ((hjs k (by omega)).mpr e))
      rw [if_pos c, f_X6_splits_31, Int32.add_zero, i3_s, show min k j = min (k + 1) j by omega]
      exact ih
    · have hkj : k < j := (hjs k (by omega)).mp (Int32.not_le.mp c)
      rw [if_neg c, f_X6_splits_31, i3_s, i3_s, show min k j + 1 = min (k + 1) j by omega]
      exact ih
theorem i3_2k (k : Nat) : (2 : Int32) * Int32.ofNat k = Int32.ofNat (2 * k) := i3_mul 2 k
theorem q_splits65 {A : aG} (h : MR0 (vp V) A) (hm : κ.1 ≤ m) {lf : Nat} {l : List (Int32 × Int32)} (hlf : lf < 32) (hls : aSt A lf ≠ 0) (hlp : aPg A lf = .inl l) (h4 : l.length = 4) {a b key v : Int32} {j k : Nat} (hj : j ≤ 4) (hk : k < 5) {t0 : Int32} {e : Int32 × Int32} (R : mR)
    (h1 : k = j → e = (key, v)) (h2 : k ≠ j → ∃ t, t < 4 ∧ t0 = Int32.ofNat t ∧ l.getD t (0, 0) = e) (k43 : Option Nat → Int32 → Int32 → Int32 → Int32 → Int32 → Int32 → Int32 → gS → Option (Unit × gS)) :
    f_X6_splits_65 κ F k43 (some m) a b (Int32.ofNat lf) key v (Int32.ofNat j) (Int32.ofNat k) t0 (MH m (wrw V R) σ) = k43 (some m) a b (Int32.ofNat lf) key v (Int32.ofNat j) (Int32.ofNat (k + 1)) (MH m (wrw V (va_up (va_up R (2 * k) e.1) (2 * k + 1) e.2)) σ) := by
  have s1 : ∀ x, gsI κ (MH m (wrw V R) σ) (some (m + 5)) ((2 : Int32) * Int32.ofNat k) x = some (MH m (wrw V (va_up R (2 * k) x)) σ) := fun x => MH_svrw (V := wrw V R) hm (i3_2k k) (by omega) x
  have s2 : ∀ x y, gsI κ (MH m (wrw V (va_up R (2 * k) x)) σ) (some (m + 5)) (((2 : Int32) * Int32.ofNat k) + (1 : Int32)) y = some (MH m (wrw V (va_up (va_up R (2 * k) x) (2 * k + 1) y)) σ) := fun x y => MH_svrw (V := wrw V (va_up R (2 * k) x)) hm (by rw [i3_2k, i3_s]) (by omega) y
  rw [f_X6_splits_65, MH_rvrw, gB1_s]
  by_cases c : k = j
  · have hc : Int32.ofNat k = Int32.ofNat j := by rw [c]
    rw [h1 c, if_pos hc, f_X6_splits_94, s1, gB1_s, MH_rvrw, gB1_s, if_pos hc, f_X6_splits_124, s2, gB1_s, i3_s]
  · have hc : ¬ Int32.ofNat k = Int32.ofNat j := fun e => c ((i3_inj (by omega) (by omega)).mp e)
    obtain ⟨t, t1, t2, t3⟩ := h2 c
    obtain ⟨a1, a2, a3, a4⟩ := MR_leaf h hlf hls hlp
    have q1 : ∀ R' : mR, f_X6_keyAt κ F (some m) (Int32.ofNat lf) (Int32.ofNat t) (MH m (wrw V R') σ) = some (e.1, MH m (wrw V R') σ) := fun R' => by
      rw [q_keyAt (V := wrw V R') (by omega)]
      show some (vp V _, _) = _
      rw [(a4 t (by omega)).1, t3]
    have q2 : ∀ R' : mR, f_X6_valueAt κ F (some m) (Int32.ofNat lf) (Int32.ofNat t) (MH m (wrw V R') σ) = some (e.2, MH m (wrw V R') σ) := fun R' => by
      rw [q_valueAt (V := wrw V R') (by omega)]
      show some (vp V _, _) = _
      rw [(a4 t (by omega)).2, t3]
    rw [t2, if_neg hc, MH_ck, gB1_s, q1, gB2_s, f_X6_splits_94, s1, gB1_s, MH_rvrw, gB1_s, if_neg hc, MH_ck, gB1_s, q2, gB2_s, f_X6_splits_124, s2, gB1_s, i3_s]
theorem q_splits43 {A : aG} (h : MR0 (vp V) A) (hm : κ.1 ≤ m) {lf : Nat} {l : List (Int32 × Int32)} (hlf : lf < 32) (hls : aSt A lf ≠ 0) (hlp : aPg A lf = .inl l) (h4 : l.length = 4) {a b key v : Int32} {j : Nat} (hj : j ≤ 4) :
    ∀ (d fuel k : Nat) (R : mR), k + d = 5 → d < fuel → (∀ i, i < k → R (2 * i) = ((ins l j (key, v)).getD i (0, 0)).1 ∧ R (2 * i + 1) = ((ins l j (key, v)).getD i (0, 0)).2) →
    ∃ R', f_X6_splits_43 κ F fuel (some m) a b (Int32.ofNat lf) key v (Int32.ofNat j) (Int32.ofNat k) (MH m (wrw V R) σ) = gB2 (f_X6_dig κ F (some m) (0 : Int32) (MH m (wrw V R') σ)) (fun v2 s1 => f_X6_splits_141 κ F F (some m) a b (Int32.ofNat lf) v2 (0 : Int32) s1) ∧
      (∀ i, i < 5 → R' (2 * i) = ((ins l j (key, v)).getD i (0, 0)).1 ∧ R' (2 * i + 1) = ((ins l j (key, v)).getD i (0, 0)).2)
  | 0, fuel, k, R, hk, hf, hR => by
    obtain ⟨f, rfl⟩ : ∃ f, fuel = f + 1 := ⟨fuel - 1, by omega⟩
    have hk : k = 5 := by omega
    subst hk
    refine ⟨R, ?_, hR⟩
    rw [f_X6_splits_43, f_X6_splits_43b, if_pos (by decide), MH_ck, gB1_s]
  | d + 1, fuel, k, R, hk, hf, hR => by
    obtain ⟨f, rfl⟩ : ∃ f, fuel = f + 1 := ⟨fuel - 1, by omega⟩
    have c5 : ¬ ((5 : Int32) ≤ Int32.ofNat k) := by rw [L5, i3_le (by omega) (by omega)]; omega
    have hg := ins_getD (l := l) (j := j) (i := k) (x := (key, v)) (d := (0, 0)) (by omega)
    have ih := q_splits43 h hm hlf hls hlp h4 (a := a) (b := b) (key := key) (v := v) hj d f (k + 1) (va_up (va_up R (2 * k) ((ins l j (key, v)).getD k (0, 0)).1) (2 * k + 1) ((ins l j (key, v)).getD k (0, 0)).2) (by omega) (by omega) (fun i hi => by
      by_cases e : i = k
      · rw [e]
        exact ⟨by rw [vup_ne (by omega)]; exact vup_at _ _ _, vup_at _ _ _⟩
      · rw [vup_ne (by omega), vup_ne (by omega), vup_ne (by omega), vup_ne (by omega)]
        exact hR i (by omega))
    rw [f_X6_splits_43, f_X6_splits_43b, if_neg c5]
    by_cases c : j ≤ k
    · rw [if_pos ((i3_le (by omega) (by omega)).mpr c), q_splits65 (key := key) (v := v) (k := k) (t0 := Int32.ofNat k - 1) (e := (ins l j (key, v)).getD k (0, 0)) h hm hlf hls hlp h4 hj (by omega) R (fun e => by rw [hg, if_neg (by omega), if_pos e]) (fun e => ⟨k - 1, by omega, i3_sub (a := k) (b := 1) (by omega), by rw [hg, if_neg (by omega), if_neg e]⟩)]
      exact ih
    · rw [if_neg (fun e => c ((i3_le (by omega) (by omega)).mp e)), q_splits65 (key := key) (v := v) (k := k) (t0 := Int32.ofNat k) (e := (ins l j (key, v)).getD k (0, 0)) h hm hlf hls hlp h4 hj (by omega) R (fun e => by omega) (fun e => ⟨k, by omega, rfl, by rw [hg, if_pos (by omega)]⟩)]
      exact ih
theorem q_splits141 (hm : κ.1 ≤ m) {lf c : Nat} {L : List (Int32 × Int32)} (hlf : lf < 32) (hc : c < 32) (hcl : c ≠ lf) {a b : Int32} {P1 : mR} (hR : ∀ i, i < 5 → vrw V (2 * i) = (L.getD i (0, 0)).1 ∧ vrw V (2 * i + 1) = (L.getD i (0, 0)).2) :
    ∀ (d fuel k : Nat) (P : mR), k + d = 5 → d < fuel → (∀ x, (x < 14 * lf + 6 ∨ 14 * lf + 14 ≤ x) → (x < 14 * c + 6 ∨ 14 * c + 14 ≤ x) → P x = P1 x) →
    (∀ i, i < k → i < 3 → P (14 * lf + (6 + 2 * i)) = (L.getD i (0, 0)).1 ∧ P (14 * lf + (6 + 2 * i + 1)) = (L.getD i (0, 0)).2) → (∀ i, i + 3 < k → P (14 * c + (6 + 2 * i)) = (L.getD (i + 3) (0, 0)).1 ∧ P (14 * c + (6 + 2 * i + 1)) = (L.getD (i + 3) (0, 0)).2) →
    ∃ P', f_X6_splits_141 κ F fuel (some m) a b (Int32.ofNat lf) (Int32.ofNat c) (Int32.ofNat k) (MH m (wp V P) σ) = f_X6_splits_141 κ F 1 (some m) a b (Int32.ofNat lf) (Int32.ofNat c) (Int32.ofNat 5) (MH m (wp V P') σ) ∧
      (∀ x, (x < 14 * lf + 6 ∨ 14 * lf + 14 ≤ x) → (x < 14 * c + 6 ∨ 14 * c + 14 ≤ x) → P' x = P1 x) ∧
      (∀ i, i < 3 → P' (14 * lf + (6 + 2 * i)) = (L.getD i (0, 0)).1 ∧ P' (14 * lf + (6 + 2 * i + 1)) = (L.getD i (0, 0)).2) ∧ (∀ i, i < 2 → P' (14 * c + (6 + 2 * i)) = (L.getD (i + 3) (0, 0)).1 ∧ P' (14 * c + (6 + 2 * i + 1)) = (L.getD (i + 3) (0, 0)).2)
  | 0, fuel, k, P, hk, hf, h1, h2, h3 => by
    obtain ⟨f, rfl⟩ : ∃ f, fuel = f + 1 := ⟨fuel - 1, by omega⟩
    have hk : k = 5 := by omega
    subst hk
    refine ⟨P, ?_, h1, fun i hi => h2 i (by omega) hi, fun i hi => h3 i (by omega)⟩
    rw [f_X6_splits_141, f_X6_splits_141, f_X6_splits_141b, f_X6_splits_141b, if_pos (by decide), if_pos (by decide)]
  | d + 1, fuel, k, P, hk, hf, h1, h2, h3 => by
    obtain ⟨f, rfl⟩ : ∃ f, fuel = f + 1 := ⟨fuel - 1, by omega⟩
    have c5 : ¬ ((5 : Int32) ≤ Int32.ofNat k) := by rw [L5, i3_le (by omega) (by omega)]; omega
    have g1 : gaI (MH m (wp V P) σ) (some (m + 5)) 0 ((2 : Int32) * Int32.ofNat k) = some (L.getD k (0, 0)).1 := by
      rw [MH_gvrw (V := wp V P) (i3_2k k) (by omega)]
      exact congrArg some (hR k (by omega)).1
    have g2 : gaI (MH m (wp V P) σ) (some (m + 5)) 0 (((2 : Int32) * Int32.ofNat k) + (1 : Int32)) = some (L.getD k (0, 0)).2 := by
      rw [MH_gvrw (V := wp V P) (k := 2 * k + 1) (by rw [i3_2k, i3_s]) (by omega)]
      exact congrArg some (hR k (by omega)).2
    rw [f_X6_splits_141, f_X6_splits_141b, if_neg c5]
    by_cases c3 : 3 ≤ k
    · have hc3 : (3 : Int32) ≤ Int32.ofNat k := by rw [L3, i3_le (by omega) (by omega)]; exact c3
      rw [if_pos hc3, f_X6_splits_160, if_pos hc3, f_X6_splits_175, MH_rvrw, gB1_s, g1, gB1_s, gB1_s, g2, gB1_s, MH_ck, gB1_s, show Int32.ofNat k - (3 : Int32) = Int32.ofNat (k - 3) from i3_sub (b := 3) c3, q_setEntry hm (by omega), gB2_s, i3_s, wp_wp]
      refine q_splits141 hm hlf hc hcl hR d f (k + 1) _ (by omega) (by omega) (fun x hx1 hx2 => ?_) (fun i hi hi3 => ?_) (fun i hi => ?_)
      · rw [vup_ne (by omega), vup_ne (by omega)]; exact h1 x hx1 hx2
      · rw [vup_ne (by omega), vup_ne (by omega), vup_ne (by omega), vup_ne (by omega)]; exact h2 i (by omega) hi3
      · by_cases e : i + 3 = k
        · subst e
          rw [show i + 3 - 3 = i by omega]
          exact ⟨by rw [vup_ne (by omega)]; exact vup_at _ _ _, vup_at _ _ _⟩
        · rw [vup_ne (by omega), vup_ne (by omega), vup_ne (by omega), vup_ne (by omega)]; exact h3 i (by omega)
    · have hc3 : ¬ (3 : Int32) ≤ Int32.ofNat k := by rw [L3, i3_le (by omega) (by omega)]; exact c3
      rw [if_neg hc3, f_X6_splits_160, if_neg hc3, f_X6_splits_175, MH_rvrw, gB1_s, g1, gB1_s, gB1_s, g2, gB1_s, MH_ck, gB1_s, q_setEntry hm (by omega), gB2_s, i3_s, wp_wp]
      refine q_splits141 hm hlf hc hcl hR d f (k + 1) _ (by omega) (by omega) (fun x hx1 hx2 => ?_) (fun i hi hi3 => ?_) (fun i hi => ?_)
      · rw [vup_ne (by omega), vup_ne (by omega)]; exact h1 x hx1 hx2
      · by_cases e : i = k
        · subst e
          exact ⟨by rw [vup_ne (by omega)]; exact vup_at _ _ _, vup_at _ _ _⟩
        · rw [vup_ne (by omega), vup_ne (by omega), vup_ne (by omega), vup_ne (by omega)]; exact h2 i (by omega) hi3
      · omega
theorem q_splits {A : aG} (h : MR0 (vp V) A) (hm : κ.1 ≤ m) (hF : 40 ≤ F) (hdr : isDr A = true) {dd place lf c j : Nat} {D : List Nat} {l : List (Int32 × Int32)} {key v : Int32} (hdd : dd < 32) (hds : aSt A dd ≠ 0) (hdp : aPg A dd = .inr D) (hD5 : D.length ≤ 5) (hpl : place < D.length)
    (hlf : lf < 32) (hls : aSt A lf ≠ 0) (hlp : aPg A lf = .inl l) (h4 : l.length = 4) (hnx : next A = some c) (hlc : isLeft A c = false) (hcd : c ≠ dd) (hcl : c ≠ lf) (hj : j ≤ 4) (hjs : ∀ i, i < 4 → ((l.getD i (0, 0)).1 < key ↔ i < j)) :
    ∃ R P', f_X6_splits κ F (some m) (Int32.ofNat dd) (Int32.ofNat place) (Int32.ofNat lf) key v (MH m V σ) = some ((), MH m (wp (wrw V R) P') σ) ∧
      MR0 P' (layA (layA (layA (digA A c (.inl [])) lf (.inl ((ins l j (key, v)).take 3))) c (.inl ((ins l j (key, v)).drop 3))) dd (.inr (ins D (place + 1) c))) ∧ (∀ x, 448 ≤ x → P' x = vp V x) := by
  have e6 := q_splits6 (κ := κ) (F := F) (m := m) (σ := σ) (a := Int32.ofNat dd) (b := Int32.ofNat place) (v := v) h hlf hls hlp h4 hj hjs 4 F 0 (by omega) (by omega)
  obtain ⟨R, e43, hR⟩ := q_splits43 (κ := κ) (F := F) (m := m) (σ := σ) (a := Int32.ofNat dd) (b := Int32.ofNat place) (key := key) (v := v) h hm hlf hls hlp h4 hj 5 F 0 (vrw V) (by omega) (by omega) (fun i hi => absurd hi (Nat.not_lt_zero _))
  obtain ⟨P1, p1, p2, p3, p4⟩ := q_dig (κ := κ) (F := F) (m := m) (V := wrw V R) (σ := σ) h hm hF hdr hnx hlc (x := 0) (p := .inl []) (Or.inl ⟨rfl, rfl⟩)
  obtain ⟨P5, e141, h51, h52, h53⟩ := q_splits141 (κ := κ) (F := F) (m := m) (V := wrw V R) (σ := σ) (a := Int32.ofNat dd) (b := Int32.ofNat place) (P1 := P1) hm hlf p3 hcl hR 5 F 0 P1 (by omega) (by omega) (fun _ _ _ => rfl) (fun i hi => absurd hi (Nat.not_lt_zero _)) (fun i hi => absurd hi (Nat.not_lt_zero _))
  have hlen := ins_len (x := (key, v)) (show j ≤ l.length by omega)
  rw [h4] at hlen
  have hL := hlen
  generalize ins l j (key, v) = L at hR h52 h53 hL ⊢
  have aD : ∀ b, b ≠ c → (digA A c (.inl [])).1 b = A.1 b := fun b hb => by rw [digA_11, if_neg hb]
  have pl : aPg (digA A c (.inl [])) lf = .inl l ∧ aSt (digA A c (.inl [])) lf ≠ 0 := by unfold aPg aSt; rw [aD _ (fun e => hcl e.symm)]; exact ⟨hlp, hls⟩
  have pc : aPg (digA A c (.inl [])) c = .inl [] ∧ aSt (digA A c (.inl [])) c ≠ 0 := by unfold aPg aSt; rw [digA_11, if_pos rfl]; exact ⟨rfl, Nat.one_ne_zero⟩
  obtain ⟨a1, a2, a3, a4⟩ := MR_leaf p2 hlf pl.2 pl.1
  obtain ⟨b1, b2, b3, b4⟩ := MR_leaf p2 p3 pc.2 pc.1
  have ht3 : (L.take 3).length = 3 := by rw [List.length_take, hL]; rfl
  have hd3 : (L.drop 3).length = 2 := by rw [List.length_drop, hL]
  have gt : ∀ i, i < 3 → (L.take 3).getD i (0, 0) = L.getD i (0, 0) := fun i hi => by rw [List.getD_eq_getElem?_getD, List.getD_eq_getElem?_getD, List.getElem?_take, if_pos hi]
  have gd : ∀ i, (L.drop 3).getD i (0, 0) = L.getD (i + 3) (0, 0) := fun i => by rw [List.getD_eq_getElem?_getD, List.getD_eq_getElem?_getD, List.getElem?_drop, Nat.add_comm 3 i]
  generalize hP7 : va_up (va_up P5 (14 * lf + 2) 3) (14 * c + 2) 2 = P7
  have e7 : ∀ x, x ≠ 14 * lf + 2 → x ≠ 14 * c + 2 → P7 x = P5 x := fun x hx1 hx2 => by rw [← hP7, vup_ne hx2, vup_ne hx1]
  have M1 : MR0 (fun x => if 14 * lf ≤ x ∧ x < 14 * lf + 14 then P7 x else P1 x) (layA (digA A c (.inl [])) lf (.inl (L.take 3))) := by
    have hin : ∀ w, w < 14 → (fun x => if 14 * lf ≤ x ∧ x < 14 * lf + 14 then P7 x else P1 x) (14 * lf + w) = P7 (14 * lf + w) := fun w hw => if_pos (by omega)
    refine MR0_lay p2 hlf (fun x hx1 hx2 => ?_) ⟨?_, ?_, by rw [ht3]; decide, fun i hi => ?_⟩
    · show (if _ then _ else _) = _
      by_cases e : 14 * lf ≤ x ∧ x < 14 * lf + 14
      · rw [if_pos e, e7 x hx1 (by omega), h51 x hx2 (by omega)]
      · rw [if_neg e]
    · rw [hin 1 (by omega), e7 _ (by omega) (by omega), h51 _ (by omega) (by omega), a1]
    · rw [hin 2 (by omega), ht3, ← hP7, vup_ne (by omega), vup_at]; rfl
    · rw [ht3] at hi
      rw [hin (6 + 2 * i) (by omega), hin (6 + 2 * i + 1) (by omega), e7 _ (by omega) (by omega), e7 _ (by omega) (by omega), gt i hi]
      exact h52 i hi
  have M2 : MR0 P7 (layA (layA (digA A c (.inl [])) lf (.inl (L.take 3))) c (.inl (L.drop 3))) := by
    refine MR0_lay M1 p3 (fun x hx1 hx2 => ?_) ⟨?_, ?_, by rw [hd3]; decide, fun i hi => ?_⟩
    · show _ = (if _ then _ else _)
      by_cases e : 14 * lf ≤ x ∧ x < 14 * lf + 14
      · rw [if_pos e]
      · rw [if_neg e, e7 x (by omega) hx1, h51 x (by omega) hx2]
    · rw [e7 _ (by omega) (by omega), h51 _ (by omega) (by omega), b1]
    · rw [hd3, ← hP7, vup_at]; rfl
    · rw [hd3] at hi
      rw [e7 _ (by omega) (by omega), e7 _ (by omega) (by omega), gd]
      exact h53 i hi
  have pdd : (layA (layA (digA A c (.inl [])) lf (.inl (L.take 3))) c (.inl (L.drop 3))).1 dd = A.1 dd ∨ dd = lf := by
    by_cases e : dd = lf
    · exact Or.inr e
    · left
      rw [layA_1, if_neg (fun e => hcd e.symm), layA_1, if_neg e, aD _ (fun e => hcd e.symm)]
  have hdlf : dd ≠ lf := fun e => by rw [e, hlp] at hdp; cases hdp
  have pdd := pdd.resolve_right hdlf
  obtain ⟨P8, q1, q2, q3⟩ := q_insertLeaf (κ := κ) (F := F) (m := m) (V := wp (wrw V R) P7) (σ := σ) (c := c) (j := place + 1) M2 hm hF hdd (by unfold aSt; rw [pdd]; exact hds) (by unfold aPg; rw [pdd]; exact hdp) hD5 (by omega)
  refine ⟨R, P8, ?_, q2, fun x hx => ?_⟩
  · rw [f_X6_splits, f_X6_splits_0]
    rw [show min 0 j = 0 from Nat.zero_min j] at e6
    refine e6.trans ?_
    refine e43.trans ?_
    rw [p1, gB2_s]
    refine e141.trans ?_
    rw [f_X6_splits_141, f_X6_splits_141b, if_pos (by decide), MH_ck, gB1_s, q_lay2 hm hlf, gB2_s, MH_ck, gB1_s, wp_wp, q_lay2 hm p3, gB2_s, MH_ck, gB1_s, wp_wp, i3_s]
    show gB2 (f_X6_insertLeaf κ F (some m) (Int32.ofNat dd) (Int32.ofNat (place + 1)) (Int32.ofNat c) (MH m (wp (wrw V R) (va_up (va_up P5 (14 * lf + 2) 3) (14 * c + 2) 2)) σ)) _ = _
    rw [hP7, q1, gB2_s]
    rfl
  · rw [q3 x (by omega)]
    show P7 x = _
    rw [e7 x (by omega) (by omega), h51 x (by omega) (by omega)]
    exact p4 x (by omega)
end Q
