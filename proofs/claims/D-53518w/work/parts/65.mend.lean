/-! the reference: the draft's end -/
theorem MRb_congr {P P' : mR} {A A' : aG} {b : Nat} (h : MRb P A b) (hP : ∀ j, 14 * b ≤ j → j < 14 * b + 14 → P' j = P j) (o1 : A'.1 b = A.1 b) (o2 : isNew A' b = isNew A b) (o3 : isLeft A' b = isLeft A b) : MRb P' A' b := by
  obtain ⟨r1, r2, r3, r4, r5, r6⟩ := h
  unfold MRb aSt aFw aPg
  rw [o1, o2, o3, hP (14 * b) (by omega) (by omega), hP (14 * b + 3) (by omega) (by omega), hP (14 * b + 4) (by omega) (by omega), hP (14 * b + 5) (by omega) (by omega), hP (14 * b + 1) (by omega) (by omega), hP (14 * b + 2) (by omega) (by omega)]
  refine ⟨r1, r2, r3, r4, r5, fun hs => ?_⟩
  have r7 := r6 hs
  unfold aPg at r7
  cases hp : (A.1 b).2.1 with
  | inl l =>
    rw [hp] at r7
    obtain ⟨a1, a2, a3, a4⟩ := r7
    exact ⟨a1, a2, a3, fun i hi => by rw [hP _ (by omega) (by omega), hP _ (by omega) (by omega)]; exact a4 i hi⟩
  | inr D =>
    rw [hp] at r7
    obtain ⟨a1, a2, a3, a4⟩ := r7
    exact ⟨a1, a2, a3, fun i hi => by rw [hP _ (by omega) (by omega)]; exact a4 i hi⟩
/-- the draft goes, its new beds are wild -/
def dropA (A : aG) : aG := (fun b => if isNew A b then (0, aPg A b, aFw A b) else A.1 b, A.2.1, A.2.2.1, none, A.2.2.2.2)
/-- the draft goes, what it left is freed with c -/
def freeA (A : aG) (c : Int32) : aG := (fun b => if isLeft A b then (2, aPg A b, c) else A.1 b, A.2.1, A.2.2.1, none, A.2.2.2.2)
section Q
variable {κ : gK} {F : Nat} {m : Nat} {V : mV} {σ : gS}
theorem q_drops4 {A : aG} (hm : κ.1 ≤ m) (hF : 40 ≤ F) (h : MR (vp V) A) : ∀ (d fuel k : Nat) (P : mR), k + d = 32 → d < fuel → (∀ b, b < k → MRb P (dropA A) b) → (∀ j, 14 * k ≤ j → P j = vp V j) →
    ∃ P', f_X6_drops_4 κ F fuel (some m) (Int32.ofNat (cnt (isNew A) k)) (Int32.ofNat k) (MH m (wp V P) σ) = some (Int32.ofNat (cnt (isNew A) 32), MH m (wp V P') σ) ∧ MR P' (dropA A)
  | 0, fuel, k, P, hk, hf, h1, h2 => by
    obtain ⟨f, rfl⟩ : ∃ f, fuel = f + 1 := ⟨fuel - 1, by omega⟩
    have hk : k = 32 := by omega
    subst hk
    have s1 : gsI κ (MH m (wp V P) σ) (some (m + 1)) (466 : Int32) (0 : Int32) = some (MH m (wp V (va_up P 466 0)) σ) := MH_svp hm (k := 466) rfl (by omega) _
    have s2 : gsI κ (MH m (wp V (va_up P 466 0)) σ) (some (m + 1)) (467 : Int32) (-1 : Int32) = some (MH m (wp V (va_up (va_up P 466 0) 467 (-1))) σ) := MH_svp hm (k := 467) rfl (by omega) _
    refine ⟨va_up (va_up P 466 0) 467 (-1), ?_, ?_⟩
    · rw [f_X6_drops_4, f_X6_drops_4b, if_pos (by decide), MH_rvp, gB1_s, s1, gB1_s, MH_rvp, gB1_s, s2, gB1_s]
    · have hlo : ∀ j, j ≠ 466 → j ≠ 467 → va_up (va_up P 466 0) 467 (-1) j = P j := fun j a b => by rw [vup_ne b, vup_ne a]
      refine ⟨fun b hb => MRb_congr (h1 b hb) (fun j _ _ => hlo j (by omega) (by omega)) rfl rfl rfl, fun r hr => ?_, fun k hk => ?_, ?_, ?_, ?_⟩
      · rw [hlo _ (by omega) (by omega), hlo _ (by omega) (by omega), hlo _ (by omega) (by omega), h2 _ (by omega), h2 _ (by omega), h2 _ (by omega)]
        exact h.2.1 r hr
      · rw [hlo _ (by omega) (by omega), hlo _ (by omega) (by omega), hlo _ (by omega) (by omega), h2 _ (by omega), h2 _ (by omega), h2 _ (by omega)]
        exact h.2.2.1 k hk
      · exact ⟨by rw [vup_ne (by omega)]; exact vup_at _ _ _, vup_at _ _ _⟩
      · rw [hlo _ (by omega) (by omega), h2 _ (by omega)]; exact h.2.2.2.2.1
      · rw [hlo _ (by omega) (by omega), h2 _ (by omega)]; exact h.2.2.2.2.2
  | d + 1, fuel, k, P, hk, hf, h1, h2 => by
    obtain ⟨f, rfl⟩ : ∃ f, fuel = f + 1 := ⟨fuel - 1, by omega⟩
    have hk32 : k < 32 := by omega
    have c4 : ¬ ((32 : Int32) ≤ Int32.ofNat k) := by rw [show (32 : Int32) = Int32.ofNat 32 from rfl, i3_le (by omega) (by omega)]; omega
    obtain ⟨r1, r2, r3, r4, r5, r6⟩ := h.1 k hk32
    have hv : vp (wp V (va_up P (14 * k + 5) 0)) (14 * k + 4) = (if isNew A k then 1 else 0) := by
      show va_up P (14 * k + 5) 0 (14 * k + 4) = _
      rw [vup_ne (by omega), h2 _ (by omega), r4]
    rw [f_X6_drops_4, f_X6_drops_4b, if_neg c4, MH_ck, gB1_s, q_lay5 hm hk32, gB2_s, MH_ck, gB1_s, wp_wp]
    show ∃ P', gB2 (f_X6_of κ F (some m) (Int32.ofNat k) (4 : Int32) (MH m (wp V (va_up P (14 * k + 5) 0)) σ)) _ = _ ∧ _
    rw [q_of4 hk32, gB2_s, hv]
    have hn2 : isNew (dropA A) k = false := rfl
    have hl2 : isLeft (dropA A) k = false := rfl
    by_cases hn : isNew A k = true
    · rw [if_pos hn, if_pos rfl, MH_ck, gB1_s, q_becomesWild hm hF hk32, gB2_s, f_X6_drops_35, i3_s, i3_s, wp_wp]
      have hA : (dropA A).1 k = (0, aPg A k, aFw A k) := if_pos hn
      have ih := q_drops4 hm hF h d f (k + 1) (zer (va_up P (14 * k + 5) 0) k 14) (by omega) (by omega) (fun b hb => ?_) (fun j hj => ?_)
      · rw [cnt_s, if_pos hn] at ih
        exact ih
      · by_cases hbk : b = k
        · subst hbk
          have hz : ∀ w, w < 14 → zer (va_up P (14 * b + 5) 0) b 14 (14 * b + w) = 0 := fun w hw => by unfold zer; rw [if_pos (by omega)]
          unfold MRb aSt aFw aPg
          rw [hA, hn2, hl2]
          exact ⟨hz 0 (by omega), (show 0 < 3 by decide), fun e => absurd (show 0 = 2 from e) (by decide), hz 4 (by omega), hz 5 (by omega), fun e => absurd rfl e⟩
        · refine MRb_congr (h1 b (by omega)) (fun j _ _ => ?_) rfl rfl rfl
          unfold zer
          rw [if_neg (by omega), vup_ne (by omega)]
      · unfold zer
        rw [if_neg (by omega), vup_ne (by omega), h2 j (by omega)]
    · rw [if_neg hn, if_neg (by decide), f_X6_drops_35, i3_s]
      have hA : (dropA A).1 k = A.1 k := if_neg hn
      have ih := q_drops4 hm hF h d f (k + 1) (va_up P (14 * k + 5) 0) (by omega) (by omega) (fun b hb => ?_) (fun j hj => ?_)
      · rw [cnt_s, if_neg hn] at ih
        exact ih
      · by_cases hbk : b = k
        · subst hbk
          have hP : ∀ j, 14 * b ≤ j → j ≠ 14 * b + 5 → va_up P (14 * b + 5) 0 j = vp V j := fun j h9 hj => by rw [vup_ne hj, h2 j h9]
          unfold MRb aSt aFw aPg
          rw [hA, hn2, hl2, hP _ (by omega) (by omega), hP (14 * b + 3) (by omega) (by omega), hP (14 * b + 4) (by omega) (by omega), hP (14 * b + 1) (by omega) (by omega), hP (14 * b + 2) (by omega) (by omega)]
          refine ⟨r1, r2, r3, by rw [r4, if_neg hn]; rfl, vup_at _ _ _, fun hs => ?_⟩
          have r7 := r6 hs
          unfold aPg at r7
          cases hp : (A.1 b).2.1 with
          | inl l =>
            rw [hp] at r7
            obtain ⟨a1, a2, a3, a4⟩ := r7
            exact ⟨a1, a2, a3, fun i hi => by rw [hP _ (by omega) (by omega), hP _ (by omega) (by omega)]; exact a4 i hi⟩
          | inr D =>
            rw [hp] at r7
            obtain ⟨a1, a2, a3, a4⟩ := r7
            exact ⟨a1, a2, a3, fun i hi => by rw [hP _ (by omega) (by omega)]; exact a4 i hi⟩
        · refine MRb_congr (h1 b (by omega)) (fun j _ _ => ?_) rfl rfl rfl
          rw [vup_ne (by omega)]
      · rw [vup_ne (by omega), h2 j (by omega)]
theorem q_drops {A : aG} (hm : κ.1 ≤ m) (hF : 40 ≤ F) (h : MR (vp V) A) : ∃ P', f_X6_drops κ F (some m) (MH m V σ) = some (Int32.ofNat (cnt (isNew A) 32), MH m (wp V P') σ) ∧ MR P' (dropA A) := by
  rw [f_X6_drops, f_X6_drops_0]
  exact q_drops4 hm hF h 32 F 0 (vp V) (by omega) (by omega) (fun b hb => absurd hb (Nat.not_lt_zero _)) (fun _ _ => rfl)
theorem q_frees4 {A : aG} {c : Int32} (hm : κ.1 ≤ m) (hF : 40 ≤ F) (h : MR (vp V) A) (hL : ∀ b, b < 32 → isLeft A b = true → aSt A b ≠ 0) : ∀ (d fuel k : Nat) (P : mR), k + d = 32 → d < fuel → (∀ b, b < k → MRb P (freeA A c) b) → (∀ j, 14 * k ≤ j → P j = vp V j) →
    ∃ P', f_X6_frees_4 κ F fuel (some m) c (Int32.ofNat (cnt (isLeft A) k)) (Int32.ofNat k) (MH m (wp V P) σ) = some (Int32.ofNat (cnt (isLeft A) 32), MH m (wp V P') σ) ∧ MR P' (freeA A c)
  | 0, fuel, k, P, hk, hf, h1, h2 => by
    obtain ⟨f, rfl⟩ : ∃ f, fuel = f + 1 := ⟨fuel - 1, by omega⟩
    have hk : k = 32 := by omega
    subst hk
    have s1 : gsI κ (MH m (wp V P) σ) (some (m + 1)) (466 : Int32) (0 : Int32) = some (MH m (wp V (va_up P 466 0)) σ) := MH_svp hm (k := 466) rfl (by omega) _
    have s2 : gsI κ (MH m (wp V (va_up P 466 0)) σ) (some (m + 1)) (467 : Int32) (-1 : Int32) = some (MH m (wp V (va_up (va_up P 466 0) 467 (-1))) σ) := MH_svp hm (k := 467) rfl (by omega) _
    refine ⟨va_up (va_up P 466 0) 467 (-1), ?_, ?_⟩
    · rw [f_X6_frees_4, f_X6_frees_4b, if_pos (by decide), MH_rvp, gB1_s, s1, gB1_s, MH_rvp, gB1_s, s2, gB1_s]
    · have hlo : ∀ j, j ≠ 466 → j ≠ 467 → va_up (va_up P 466 0) 467 (-1) j = P j := fun j a b => by rw [vup_ne b, vup_ne a]
      refine ⟨fun b hb => MRb_congr (h1 b hb) (fun j _ _ => hlo j (by omega) (by omega)) rfl rfl rfl, fun r hr => ?_, fun k hk => ?_, ?_, ?_, ?_⟩
      · rw [hlo _ (by omega) (by omega), hlo _ (by omega) (by omega), hlo _ (by omega) (by omega), h2 _ (by omega), h2 _ (by omega), h2 _ (by omega)]
        exact h.2.1 r hr
      · rw [hlo _ (by omega) (by omega), hlo _ (by omega) (by omega), hlo _ (by omega) (by omega), h2 _ (by omega), h2 _ (by omega), h2 _ (by omega)]
        exact h.2.2.1 k hk
      · exact ⟨by rw [vup_ne (by omega)]; exact vup_at _ _ _, vup_at _ _ _⟩
      · rw [hlo _ (by omega) (by omega), h2 _ (by omega)]; exact h.2.2.2.2.1
      · rw [hlo _ (by omega) (by omega), h2 _ (by omega)]; exact h.2.2.2.2.2
  | d + 1, fuel, k, P, hk, hf, h1, h2 => by
    obtain ⟨f, rfl⟩ : ∃ f, fuel = f + 1 := ⟨fuel - 1, by omega⟩
    have hk32 : k < 32 := by omega
    have c4 : ¬ ((32 : Int32) ≤ Int32.ofNat k) := by rw [show (32 : Int32) = Int32.ofNat 32 from rfl, i3_le (by omega) (by omega)]; omega
    obtain ⟨r1, r2, r3, r4, r5, r6⟩ := h.1 k hk32
    have q5 : f_X6_of κ F (some m) (Int32.ofNat k) (5 : Int32) (MH m (wp V P) σ) = some (P (14 * k + 5), MH m (wp V P) σ) := q_of (V := wp V P) (w := 5) (by omega)
    rw [f_X6_frees_4, f_X6_frees_4b, if_neg c4, MH_ck, gB1_s, q5, gB2_s, h2 _ (by omega), r5]
    have hn2 : isNew (freeA A c) k = false := rfl
    have hl2 : isLeft (freeA A c) k = false := rfl
    -- the page's part of a bed's row
    have hpage : ∀ Q : mR, aSt A k ≠ 0 → (∀ w, 1 ≤ w → w < 14 → w ≠ 3 → w ≠ 4 → w ≠ 5 → Q (14 * k + w) = vp V (14 * k + w)) → (match aPg A k with
        | .inl l => Q (14 * k + 1) = 0 ∧ Q (14 * k + 2) = Int32.ofNat l.length ∧ l.length ≤ 4 ∧ ∀ i, (h : i < l.length) → Q (14 * k + (6 + 2 * i)) = (l[i]'h).1 ∧ Q (14 * k + (6 + 2 * i + 1)) = (l[i]'h).2
        | .inr D => Q (14 * k + 1) = 1 ∧ Q (14 * k + 2) = Int32.ofNat D.length ∧ D.length ≤ 6 ∧ ∀ i, (h : i < D.length) → Q (14 * k + (6 + i)) = Int32.ofNat (D[i]'h)) := by
      intro Q hs hQ
      have r7 := r6 hs
      cases hp : aPg A k with
      | inl l =>
        rw [hp] at r7
        obtain ⟨a1, a2, a3, a4⟩ := r7
        exact ⟨(hQ 1 (by omega) (by omega) (by omega) (by omega) (by omega)).trans a1, (hQ 2 (by omega) (by omega) (by omega) (by omega) (by omega)).trans a2, a3, fun i hi => ⟨(hQ (6 + 2 * i) (by omega) (by omega) (by omega) (by omega) (by omega)).trans (a4 i hi).1, (hQ (6 + 2 * i + 1) (by omega) (by omega) (by omega) (by omega) (by omega)).trans (a4 i hi).2⟩⟩
      | inr D =>
        rw [hp] at r7
        obtain ⟨a1, a2, a3, a4⟩ := r7
        exact ⟨(hQ 1 (by omega) (by omega) (by omega) (by omega) (by omega)).trans a1, (hQ 2 (by omega) (by omega) (by omega) (by omega) (by omega)).trans a2, a3, fun i hi => (hQ (6 + i) (by omega) (by omega) (by omega) (by omega) (by omega)).trans (a4 i hi)⟩
    by_cases hn : isLeft A k = true
    · rw [if_pos hn, if_pos rfl, MH_ck, gB1_s, q_lay0 hm hk32, gB2_s, MH_ck, gB1_s, q_lay3 hm hk32, gB2_s, wp_wp, f_X6_frees_37, MH_ck, gB1_s, q_lay5 hm hk32, gB2_s, wp_wp, MH_ck, gB1_s, q_lay4 hm hk32, gB2_s, wp_wp, i3_s, i3_s]
      have hA : (freeA A c).1 k = (2, aPg A k, c) := if_pos hn
      have ih := q_frees4 (c := c) hm hF h hL d f (k + 1) (va_up (va_up (va_up (va_up P (14 * k + 0) 2) (14 * k + 3) c) (14 * k + 5) 0) (14 * k + 4) 0) (by omega) (by omega) (fun b hb => ?_) (fun j hj => ?_)
      · rw [cnt_s, if_pos hn] at ih
        exact ih
      · by_cases hbk : b = k
        · subst hbk
          unfold MRb aSt aFw aPg
          rw [hA, hn2, hl2]
          refine ⟨?_, (show 2 < 3 by decide), fun _ => ?_, vup_at _ _ _, ?_, fun _ => hpage _ (hL b hk32 hn) fun w w1 w2 w3 w4 w5 => ?_⟩
          · rw [vup_ne (by omega), vup_ne (by omega), vup_ne (by omega)]; exact vup_at _ _ _
          · rw [vup_ne (by omega), vup_ne (by omega)]; exact vup_at _ _ _
          · rw [vup_ne (by omega)]; exact vup_at _ _ _
          · rw [vup_ne (by omega), vup_ne (by omega), vup_ne (by omega), vup_ne (by omega), h2 _ (by omega)]
        · refine MRb_congr (h1 b (by omega)) (fun j _ _ => ?_) rfl rfl rfl
          rw [vup_ne (by omega), vup_ne (by omega), vup_ne (by omega), vup_ne (by omega)]
      · rw [vup_ne (by omega), vup_ne (by omega), vup_ne (by omega), vup_ne (by omega), h2 j (by omega)]
    · rw [if_neg hn, if_neg (by decide), f_X6_frees_37, MH_ck, gB1_s, q_lay5 hm hk32, gB2_s, wp_wp, MH_ck, gB1_s, q_lay4 hm hk32, gB2_s, wp_wp, i3_s]
      have hA : (freeA A c).1 k = A.1 k := if_neg hn
      have ih := q_frees4 (c := c) hm hF h hL d f (k + 1) (va_up (va_up P (14 * k + 5) 0) (14 * k + 4) 0) (by omega) (by omega) (fun b hb => ?_) (fun j hj => ?_)
      · rw [cnt_s, if_neg hn] at ih
        exact ih
      · by_cases hbk : b = k
        · subst hbk
          unfold MRb aSt aFw aPg
          rw [hA, hn2, hl2]
          refine ⟨?_, r2, fun e => ?_, vup_at _ _ _, ?_, fun hs => hpage _ hs fun w w1 w2 w3 w4 w5 => ?_⟩
          · rw [vup_ne (by omega), vup_ne (by omega), h2 _ (by omega)]; exact r1
          · rw [vup_ne (by omega), vup_ne (by omega), h2 _ (by omega)]; exact r3 e
          · rw [vup_ne (by omega)]; exact vup_at _ _ _
          · rw [vup_ne (by omega), vup_ne (by omega), h2 _ (by omega)]
        · refine MRb_congr (h1 b (by omega)) (fun j _ _ => ?_) rfl rfl rfl
          rw [vup_ne (by omega), vup_ne (by omega)]
      · rw [vup_ne (by omega), vup_ne (by omega), h2 j (by omega)]
theorem q_frees {A : aG} {c : Int32} (hm : κ.1 ≤ m) (hF : 40 ≤ F) (h : MR (vp V) A) (hL : ∀ b, b < 32 → isLeft A b = true → aSt A b ≠ 0) : ∃ P', f_X6_frees κ F (some m) c (MH m V σ) = some (Int32.ofNat (cnt (isLeft A) 32), MH m (wp V P') σ) ∧ MR P' (freeA A c) := by
  rw [f_X6_frees, f_X6_frees_0]
  exact q_frees4 hm hF h hL 32 F 0 (vp V) (by omega) (by omega) (fun b hb => absurd hb (Nat.not_lt_zero _)) (fun _ _ => rfl)
def beginA (A : aG) : aG := setDr A (some (fun _ => false, fun _ => false, nowD A))
theorem q_p466 {A : aG} (h : MR (vp V) A) : vp V 466 = if isDr A then 1 else 0 := by
  have h3 := h.2.2.2.1
  unfold isDr
  cases hd : aDr A with
  | none => rw [hd] at h3; exact h3.1
  | some d => rw [hd] at h3; exact h3.1
theorem q_doBegin {A : aG} (h : MR (vp V) A) (hm : κ.1 ≤ m) : (isDr A = true → f_X6_doBegin κ F (some m) (MH m V σ) = some (0, MH m (wco V 1) σ)) ∧
    (isDr A = false → ∃ P', f_X6_doBegin κ F (some m) (MH m V σ) = some (nowC A, MH m (wp V P') σ) ∧ MR P' (beginA A)) := by
  have hg : gaI (MH m V σ) (some (m + 1)) 0 (466 : Int32) = some (vp V 466) := MH_gvp (k := 466) rfl (by omega)
  have h6 := q_p466 h
  constructor
  · intro hd
    rw [f_X6_doBegin, f_X6_doBegin_0, MH_rvp, gB1_s, hg, gB1_s, h6, if_pos hd, if_pos rfl, MH_ck, gB1_s, q_refuse hm, gB2_s]
  · intro hd
    have s1 : gsI κ (MH m V σ) (some (m + 1)) (466 : Int32) (1 : Int32) = some (MH m (wp V (va_up (vp V) 466 1)) σ) := MH_svp hm (k := 466) rfl (by omega) _
    have s2 : gsI κ (MH m (wp V (va_up (vp V) 466 1)) σ) (some (m + 1)) (467 : Int32) (-1 : Int32) = some (MH m (wp V (va_up (va_up (vp V) 466 1) 467 (-1))) σ) := MH_svp hm (k := 467) rfl (by omega) _
    have hlo : ∀ j, j ≠ 466 → j ≠ 467 → va_up (va_up (vp V) 466 1) 467 (-1) j = vp V j := fun j a b => by rw [vup_ne b, vup_ne a]
    have hnone : aDr A = none := by
      unfold isDr at hd
      cases hx : aDr A with
      | none => rfl
      | some d => rw [hx] at hd; cases hd
    have n1 : ∀ b, isNew A b = false := fun b => by unfold isNew; rw [hnone]
    have n2 : ∀ b, isLeft A b = false := fun b => by unfold isLeft; rw [hnone]
    have hMR : MR (va_up (va_up (vp V) 466 1) 467 (-1)) (beginA A) := by
      refine ⟨fun b hb => MRb_congr (h.1 b hb) (fun j _ _ => hlo j (by omega) (by omega)) rfl (n1 b).symm (n2 b).symm, fun r hr => ?_, fun k hk => ?_, ?_, ?_, ?_⟩
      · rw [hlo _ (by omega) (by omega), hlo _ (by omega) (by omega), hlo _ (by omega) (by omega)]
        exact h.2.1 r hr
      · rw [hlo _ (by omega) (by omega), hlo _ (by omega) (by omega), hlo _ (by omega) (by omega)]
        exact h.2.2.1 k hk
      · exact ⟨by rw [vup_ne (by omega)]; exact vup_at _ _ _, (fun ⟨b, hb, e⟩ => (by cases e)), fun _ => ⟨vup_at _ _ _, rfl⟩⟩
      · rw [hlo _ (by omega) (by omega)]; exact h.2.2.2.2.1
      · rw [hlo _ (by omega) (by omega)]; exact h.2.2.2.2.2
    refine ⟨va_up (va_up (vp V) 466 1) 467 (-1), ?_, hMR⟩
    have hc := q_current (κ := κ) (F := F) (m := m) (V := wp V (va_up (va_up (vp V) 466 1) 467 (-1))) (σ := σ) (MR_0 hMR)
    have hr : vp (wp V (va_up (va_up (vp V) 466 1) 467 (-1))) (448 + 3 * cur (beginA A) + 0) = nowC A := (hMR.2.1 _ (cur2 _)).1
    rw [f_X6_doBegin, f_X6_doBegin_0, MH_rvp, gB1_s, hg, gB1_s, h6, hd, if_neg (by decide), gB1_s, s1, gB1_s, MH_rvp, gB1_s, s2, gB1_s, MH_ck, gB1_s, hc, gB2_s, MH_ck, gB1_s, q_ofRoot0 (cur2 _), gB2_s, hr]
end Q
