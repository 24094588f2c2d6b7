/-! the reference's steps of a change, told of the abstract garden -/
def setB (A : aG) (b : Nat) (x : aB) : aG := (va_up A.1 b x, A.2)
def setDr (A : aG) (d : Option aD) : aG := (A.1, A.2.1, A.2.2.1, d, A.2.2.2.2)
def upNew (A : aG) (b : Nat) (v : Bool) : aG := match aDr A with
  | none => A
  | some d => setDr A (some (va_up d.1 b v, d.2))
def upLeft (A : aG) (b : Nat) (v : Bool) : aG := match aDr A with
  | none => A
  | some d => setDr A (some (d.1, va_up d.2.1 b v, d.2.2))
def digA (A : aG) (b : Nat) (p : Pg) : aG := upNew (setB A b (1, p, aFw A b)) b true
def layA (A : aG) (b : Nat) (p : Pg) : aG := setB A b (aSt A b, p, aFw A b)
def wildA (A : aG) (b : Nat) : aG := upNew (setB A b (0, aPg A b, aFw A b)) b false
def leaveA (A : aG) (b : Nat) : aG := if isNew A b then wildA A b else upLeft A b true
theorem upNew_1 (A : aG) (b : Nat) (v : Bool) : (upNew A b v).1 = A.1 ∧ (upNew A b v).2.1 = A.2.1 ∧ (upNew A b v).2.2.1 = A.2.2.1 ∧ (upNew A b v).2.2.2.2 = A.2.2.2.2 := by
  unfold upNew
  cases aDr A <;> exact ⟨rfl, rfl, rfl, rfl⟩
theorem upLeft_1 (A : aG) (b : Nat) (v : Bool) : (upLeft A b v).1 = A.1 ∧ (upLeft A b v).2.1 = A.2.1 ∧ (upLeft A b v).2.2.1 = A.2.2.1 ∧ (upLeft A b v).2.2.2.2 = A.2.2.2.2 := by
  unfold upLeft
  cases aDr A <;> exact ⟨rfl, rfl, rfl, rfl⟩
theorem isNew_upNew {A : aG} {b c : Nat} {v : Bool} (hd : isDr A = true) : isNew (upNew A b v) c = if c = b then v else isNew A c := by
  unfold isNew upNew
  unfold isDr at hd
  cases h : aDr A with
  | none => rw [h] at hd; cases hd
  | some d => rfl
theorem isLeft_upNew {A : aG} {b c : Nat} {v : Bool} : isLeft (upNew A b v) c = isLeft A c := by
  unfold isLeft upNew
  cases h : aDr A with
  | none => simp only; rw [h]
  | some d => rfl
theorem isNew_upLeft {A : aG} {b c : Nat} {v : Bool} : isNew (upLeft A b v) c = isNew A c := by
  unfold isNew upLeft
  cases h : aDr A with
  | none => simp only; rw [h]
  | some d => rfl
theorem isLeft_upLeft {A : aG} {b c : Nat} {v : Bool} (hd : isDr A = true) : isLeft (upLeft A b v) c = if c = b then v else isLeft A c := by
  unfold isLeft upLeft
  unfold isDr at hd
  cases h : aDr A with
  | none => rw [h] at hd; cases hd
  | some d => rfl
/-- a change of one bed -/
theorem MR0_set {P P' : mR} {A A' : aG} {b : Nat} (h : MR0 P A) (hb : b < 32) (hP : ∀ k, (k < 14 * b ∨ 14 * b + 14 ≤ k) → P' k = P k) (hr : A'.2.1 = A.2.1) (hd : A'.2.2.1 = A.2.2.1) (ho : ∀ c, c ≠ b → A'.1 c = A.1 c ∧ isNew A' c = isNew A c ∧ isLeft A' c = isLeft A c) (hnew : MRb P' A' b) : MR0 P' A' := by
  refine ⟨fun c hc => ?_, fun r hr2 => ?_, fun k hk => ?_, trivial⟩
  · by_cases e : c = b
    · rw [e]; exact hnew
    · obtain ⟨o1, o2, o3⟩ := ho c e
      have hPc : ∀ k, 14 * c ≤ k → k < 14 * c + 14 → P' k = P k := fun k h1 h2 => hP k (by omega)
      obtain ⟨r1, r2, r3, r4, r5, r6⟩ := h.1 c hc
      unfold MRb aSt aFw aPg
      rw [o1, o2, o3, hPc (14 * c) (by omega) (by omega), hPc (14 * c + 3) (by omega) (by omega), hPc (14 * c + 4) (by omega) (by omega), hPc (14 * c + 5) (by omega) (by omega), hPc (14 * c + 1) (by omega) (by omega), hPc (14 * c + 2) (by omega) (by omega)]
      refine ⟨r1, r2, r3, r4, r5, fun hs => ?_⟩
      have r7 := r6 hs
      unfold aPg at r7
      cases hp : (A.1 c).2.1 with
      | inl l =>
        rw [hp] at r7
        obtain ⟨a1, a2, a3, a4⟩ := r7
        exact ⟨a1, a2, a3, fun i hi => by rw [hPc _ (by omega) (by omega), hPc _ (by omega) (by omega)]; exact a4 i hi⟩
      | inr D =>
        rw [hp] at r7
        obtain ⟨a1, a2, a3, a4⟩ := r7
        exact ⟨a1, a2, a3, fun i hi => by rw [hPc _ (by omega) (by omega)]; exact a4 i hi⟩
  · have := h.2.1 r hr2
    rw [← hP (448 + 3 * r + 0) (by omega), ← hP (448 + 3 * r + 1) (by omega), ← hP (448 + 3 * r + 2) (by omega)] at this
    unfold aRt
    rw [hr]
    exact this
  · have := h.2.2.1 k hk
    rw [← hP (454 + 3 * k + 0) (by omega), ← hP (454 + 3 * k + 1) (by omega), ← hP (454 + 3 * k + 2) (by omega)] at this
    unfold aRd
    rw [hd]
    exact this
theorem wp_wp (V : mV) (f g : mR) : wp (wp V f) g = wp V g := rfl
section Q
variable {κ : gK} {F : Nat} {m : Nat} {V : mV} {σ : gS}
theorem q_lay0 (hm : κ.1 ≤ m) {b : Nat} {x : Int32} (h : b < 32) : f_X6_lay κ F (some m) (Int32.ofNat b) (0 : Int32) x (MH m V σ) = some ((), MH m (wp V (va_up (vp V) (14 * b + 0) x)) σ) := q_lay (w := 0) hm (by omega)
theorem q_lay1 (hm : κ.1 ≤ m) {b : Nat} {x : Int32} (h : b < 32) : f_X6_lay κ F (some m) (Int32.ofNat b) (1 : Int32) x (MH m V σ) = some ((), MH m (wp V (va_up (vp V) (14 * b + 1) x)) σ) := q_lay (w := 1) hm (by omega)
theorem q_lay2 (hm : κ.1 ≤ m) {b : Nat} {x : Int32} (h : b < 32) : f_X6_lay κ F (some m) (Int32.ofNat b) (2 : Int32) x (MH m V σ) = some ((), MH m (wp V (va_up (vp V) (14 * b + 2) x)) σ) := q_lay (w := 2) hm (by omega)
theorem q_lay3 (hm : κ.1 ≤ m) {b : Nat} {x : Int32} (h : b < 32) : f_X6_lay κ F (some m) (Int32.ofNat b) (3 : Int32) x (MH m V σ) = some ((), MH m (wp V (va_up (vp V) (14 * b + 3) x)) σ) := q_lay (w := 3) hm (by omega)
theorem q_lay4 (hm : κ.1 ≤ m) {b : Nat} {x : Int32} (h : b < 32) : f_X6_lay κ F (some m) (Int32.ofNat b) (4 : Int32) x (MH m V σ) = some ((), MH m (wp V (va_up (vp V) (14 * b + 4) x)) σ) := q_lay (w := 4) hm (by omega)
theorem q_lay5 (hm : κ.1 ≤ m) {b : Nat} {x : Int32} (h : b < 32) : f_X6_lay κ F (some m) (Int32.ofNat b) (5 : Int32) x (MH m V σ) = some ((), MH m (wp V (va_up (vp V) (14 * b + 5) x)) σ) := q_lay (w := 5) hm (by omega)
theorem vup_at {α : Type} (f : Nat → α) (k : Nat) (v : α) : va_up f k v k = v := by simp [va_up]
theorem vup_ne {α : Type} {f : Nat → α} {k j : Nat} {v : α} (h : j ≠ k) : va_up f k v j = f j := by simp [va_up, h]
/-- a bed is dug: its page is empty yet -/
theorem q_dig {A : aG} (h : MR0 (vp V) A) (hm : κ.1 ≤ m) (hF : 40 ≤ F) (hdr : isDr A = true) {b : Nat} (hn : next A = some b) (hl : isLeft A b = false) {x : Int32} {p : Pg} (hx : (x = 0 ∧ p = .inl []) ∨ (x = 1 ∧ p = .inr [])) :
    ∃ P', f_X6_dig κ F (some m) x (MH m V σ) = some (Int32.ofNat b, MH m (wp V P') σ) ∧ MR0 P' (digA A b p) ∧ b < 32 ∧ (∀ k, (k < 14 * b ∨ 14 * b + 14 ≤ k) → P' k = vp V k) := by
  have hb : b < 32 := by
    unfold next at hn
    cases hb : best A 32 with
    | none => rw [hb] at hn; exact (wld_lt (A := A) (d := 32) hn).1
    | some e => rw [hb] at hn; cases hn; exact best_lt hb
  have hout : ∀ k, (k < 14 * b ∨ 14 * b + 14 ≤ k) → va_up (va_up (va_up (va_up (va_up (va_up (vp V) (14 * b + 0) 1) (14 * b + 1) x) (14 * b + 2) 0) (14 * b + 3) 0) (14 * b + 4) 1) (14 * b + 5) 0 k = vp V k := fun k hk => by
    rw [vup_ne (by omega), vup_ne (by omega), vup_ne (by omega), vup_ne (by omega), vup_ne (by omega), vup_ne (by omega)]
  refine ⟨va_up (va_up (va_up (va_up (va_up (va_up (vp V) (14 * b + 0) 1) (14 * b + 1) x) (14 * b + 2) 0) (14 * b + 3) 0) (14 * b + 4) 1) (14 * b + 5) 0, ?_, ?_, hb, hout⟩
  · rw [f_X6_dig, f_X6_dig_0, MH_ck, gB1_s, q_nextNow h hF, gB2_s, hn]
    show gB1 (gck (MH m V σ) (some m) 9) _ = _
    rw [MH_ck, gB1_s]
    show gB2 (f_X6_lay κ F (some m) (Int32.ofNat b) (0 : Int32) (1 : Int32) (MH m V σ)) _ = _
    rw [q_lay0 hm hb, gB2_s, MH_ck, gB1_s]
    show gB2 (f_X6_lay κ F (some m) (Int32.ofNat b) (1 : Int32) x _) _ = _
    rw [q_lay1 hm hb, gB2_s, MH_ck, gB1_s]
    show gB2 (f_X6_lay κ F (some m) (Int32.ofNat b) (2 : Int32) 0 _) _ = _
    rw [q_lay2 hm hb, gB2_s, MH_ck, gB1_s]
    show gB2 (f_X6_lay κ F (some m) (Int32.ofNat b) (3 : Int32) 0 _) _ = _
    rw [q_lay3 hm hb, gB2_s, MH_ck, gB1_s]
    show gB2 (f_X6_lay κ F (some m) (Int32.ofNat b) (4 : Int32) 1 _) _ = _
    rw [q_lay4 hm hb, gB2_s, MH_ck, gB1_s]
    show gB2 (f_X6_lay κ F (some m) (Int32.ofNat b) (5 : Int32) 0 _) _ = _
    rw [q_lay5 hm hb, gB2_s]
    rfl
  · have e1 := upNew_1 (setB A b (1, p, aFw A b)) b true
    have hdr2 : isDr (setB A b (1, p, aFw A b)) = true := hdr
    have hA : (digA A b p).1 b = (1, p, aFw A b) := by
      unfold digA
      rw [e1.1]
      exact vup_at _ _ _
    refine MR0_set h hb hout e1.2.1 e1.2.2.1 (fun c hc => ⟨?_, ?_, ?_⟩) ?_
    · unfold digA
      rw [e1.1]
      exact vup_ne hc
    · unfold digA
      rw [isNew_upNew hdr2, if_neg hc]; rfl
    · unfold digA
      rw [isLeft_upNew]; rfl
    · unfold MRb aSt aFw aPg
      rw [hA]
      have n1 : isNew (digA A b p) b = true := by unfold digA; rw [isNew_upNew hdr2, if_pos rfl]
      have n2 : isLeft (digA A b p) b = isLeft A b := by unfold digA; rw [isLeft_upNew]; rfl
      rw [n1, n2, hl]
      have g1 : ∀ k v, va_up (vp V) k v k = v := fun k v => vup_at _ _ _
      refine ⟨?_, (show 1 < 3 by decide), fun e => absurd (show 1 = 2 from e) (by decide), ?_, ?_, fun _ => ?_⟩
      · rw [vup_ne (by omega), vup_ne (by omega), vup_ne (by omega), vup_ne (by omega), vup_ne (by omega)]; exact vup_at _ _ _
      · rw [vup_ne (by omega)]; exact vup_at _ _ _
      · exact vup_at _ _ _
      · have k1 : va_up (va_up (va_up (va_up (va_up (va_up (vp V) (14 * b + 0) 1) (14 * b + 1) x) (14 * b + 2) 0) (14 * b + 3) 0) (14 * b + 4) 1) (14 * b + 5) 0 (14 * b + 1) = x := by
          rw [vup_ne (by omega), vup_ne (by omega), vup_ne (by omega), vup_ne (by omega)]; exact vup_at _ _ _
        have k2 : va_up (va_up (va_up (va_up (va_up (va_up (vp V) (14 * b + 0) 1) (14 * b + 1) x) (14 * b + 2) 0) (14 * b + 3) 0) (14 * b + 4) 1) (14 * b + 5) 0 (14 * b + 2) = 0 := by
          rw [vup_ne (by omega), vup_ne (by omega), vup_ne (by omega)]; exact vup_at _ _ _
        rcases hx with ⟨rfl, rfl⟩ | ⟨rfl, rfl⟩
        · exact ⟨k1, k2, by simp, fun i hi => by simp at hi⟩
        · exact ⟨k1, k2, by simp, fun i hi => by simp at hi⟩
def zer (f : mR) (b k : Nat) : mR := fun j => if 14 * b ≤ j ∧ j < 14 * b + k then 0 else f j
theorem q_wild2 (hm : κ.1 ≤ m) {b : Nat} (hb : b < 32) : ∀ (d fuel k : Nat), k + d = 14 → d < fuel → f_X6_becomesWild_2 κ F fuel (some m) (Int32.ofNat b) (Int32.ofNat k) (MH m (wp V (zer (vp V) b k)) σ) = some ((), MH m (wp V (zer (vp V) b 14)) σ)
  | 0, fuel, k, hk, hf => by
    obtain ⟨f, rfl⟩ : ∃ f, fuel = f + 1 := ⟨fuel - 1, by omega⟩
    have hk : k = 14 := by omega
    subst hk
    rw [f_X6_becomesWild_2, f_X6_becomesWild_2b, if_pos (by decide)]
  | d + 1, fuel, k, hk, hf => by
    obtain ⟨f, rfl⟩ : ∃ f, fuel = f + 1 := ⟨fuel - 1, by omega⟩
    have c4 : ¬ ((14 : Int32) ≤ Int32.ofNat k) := by rw [L14, i3_le (by omega) (by omega)]; omega
    have ih := q_wild2 hm hb d f (k + 1) (by omega) (by omega)
    have hs : va_up (zer (vp V) b k) (14 * b + k) 0 = zer (vp V) b (k + 1) := by
      funext j
      unfold va_up zer
      by_cases h : j = 14 * b + k
      · rw [if_pos h, if_pos (by omega)]
      · rw [if_neg h]
        by_cases h2 : 14 * b ≤ j ∧ j < 14 * b + k
        · rw [if_pos h2, if_pos (by omega)]
        · rw [if_neg h2, if_neg (by omega)]
    rw [f_X6_becomesWild_2, f_X6_becomesWild_2b, if_neg c4, MH_ck, gB1_s, q_lay hm (by omega), gB2_s, i3_s, wp_wp]
    show f_X6_becomesWild_2 κ F f (some m) (Int32.ofNat b) (Int32.ofNat (k + 1)) (MH m (wp V (va_up (zer (vp V) b k) (14 * b + k) 0)) σ) = _
    rw [hs]
    exact ih
theorem q_becomesWild (hm : κ.1 ≤ m) (hF : 40 ≤ F) {b : Nat} (hb : b < 32) : f_X6_becomesWild κ F (some m) (Int32.ofNat b) (MH m V σ) = some ((), MH m (wp V (zer (vp V) b 14)) σ) := by
  have h := q_wild2 (κ := κ) (F := F) (m := m) (V := V) (σ := σ) hm hb 14 F 0 (by omega) (by omega)
  have h0 : wp V (zer (vp V) b 0) = V := by
    have : zer (vp V) b 0 = vp V := by funext j; unfold zer; rw [if_neg (by omega)]
    rw [this]; rfl
  rw [h0] at h
  rw [f_X6_becomesWild, f_X6_becomesWild_0]
  exact h
/-- a bed is wild again -/
theorem MR0_wild {A : aG} {P : mR} (h : MR0 P A) {b : Nat} (hb : b < 32) (hl : isLeft A b = false) (hdr : isDr A = true) : MR0 (zer P b 14) (wildA A b) := by
  have e1 := upNew_1 (setB A b (0, aPg A b, aFw A b)) b false
  have hdr2 : isDr (setB A b (0, aPg A b, aFw A b)) = true := hdr
  have hA : (wildA A b).1 b = (0, aPg A b, aFw A b) := by
    unfold wildA
    rw [e1.1]
    exact vup_at _ _ _
  have hz : ∀ w, w < 14 → zer P b 14 (14 * b + w) = 0 := fun w hw => by unfold zer; rw [if_pos (by omega)]
  refine MR0_set h hb (fun k hk => by unfold zer; rw [if_neg (by omega)]) e1.2.1 e1.2.2.1 (fun c hc => ⟨?_, ?_, ?_⟩) ?_
  · unfold wildA
    rw [e1.1]
    exact vup_ne hc
  · unfold wildA
    rw [isNew_upNew hdr2, if_neg hc]; rfl
  · unfold wildA
    rw [isLeft_upNew]; rfl
  · have n1 : isNew (wildA A b) b = false := by unfold wildA; rw [isNew_upNew hdr2, if_pos rfl]
    have n2 : isLeft (wildA A b) b = isLeft A b := by unfold wildA; rw [isLeft_upNew]; rfl
    unfold MRb aSt aFw aPg
    rw [hA, n1, n2, hl]
    exact ⟨hz 0 (by omega), (show 0 < 3 by decide), fun e => absurd (show 0 = 2 from e) (by decide), hz 4 (by omega), hz 5 (by omega), fun e => absurd rfl e⟩
/-- a bed of the draft is left, or wild again if it is new -/
theorem q_leaves {A : aG} (h : MR0 (vp V) A) (hm : κ.1 ≤ m) (hF : 40 ≤ F) (hdr : isDr A = true) {b : Nat} (hb : b < 32) (hnl : isNew A b = true → isLeft A b = false) :
    ∃ P', f_X6_leaves κ F (some m) (Int32.ofNat b) (MH m V σ) = some ((), MH m (wp V P') σ) ∧ MR0 P' (leaveA A b) ∧ (∀ k, (k < 14 * b ∨ 14 * b + 14 ≤ k) → P' k = vp V k) := by
  obtain ⟨r1, r2, r3, r4, r5, r6⟩ := h.1 b hb
  rw [f_X6_leaves, f_X6_leaves_0, MH_ck, gB1_s, q_of4 hb, gB2_s, r4]
  unfold leaveA
  by_cases hn : isNew A b = true
  · rw [if_pos hn, if_pos rfl, MH_ck, gB1_s, q_becomesWild hm hF hb, gB2_s, f_X6_leaves_25, if_pos hn]
    exact ⟨_, rfl, MR0_wild h hb (hnl hn) hdr, fun k hk => by unfold zer; rw [if_neg (by omega)]⟩
  · rw [if_neg hn, if_neg (by decide), MH_ck, gB1_s, q_lay5 hm hb, gB2_s, f_X6_leaves_25, if_neg hn]
    have e1 := upLeft_1 A b true
    refine ⟨_, rfl, MR0_set h hb (fun k hk => vup_ne (by omega)) e1.2.1 e1.2.2.1 (fun c hc => ⟨by rw [e1.1], isNew_upLeft, by rw [isLeft_upLeft hdr, if_neg hc]⟩) ?_, fun k hk => vup_ne (by omega)⟩
    have hP : ∀ k, k ≠ 14 * b + 5 → va_up (vp V) (14 * b + 5) 1 k = vp V k := fun k hk => vup_ne hk
    unfold MRb aSt aFw aPg
    rw [e1.1, isNew_upLeft, isLeft_upLeft hdr, if_pos rfl, hP _ (by omega), hP _ (by omega), hP _ (by omega), hP (14 * b + 1) (by omega), hP (14 * b + 2) (by omega)]
    refine ⟨r1, r2, r3, r4, vup_at _ _ _, fun hs => ?_⟩
    have r7 := r6 hs
    unfold aPg at r7
    cases hp : (A.1 b).2.1 with
    | inl l =>
      rw [hp] at r7
      obtain ⟨a1, a2, a3, a4⟩ := r7
      exact ⟨a1, a2, a3, fun i hi => by rw [hP _ (by omega), hP _ (by omega)]; exact a4 i hi⟩
    | inr D =>
      rw [hp] at r7
      obtain ⟨a1, a2, a3, a4⟩ := r7
      exact ⟨a1, a2, a3, fun i hi => by rw [hP _ (by omega)]; exact a4 i hi⟩
theorem q_copies3 (hm : κ.1 ≤ m) {a b : Nat} (ha : a < 32) (hb : b < 32) (hab : a ≠ b) : ∀ (d fuel k : Nat), k + d = 14 → 6 ≤ k → d < fuel → f_X6_copies_3 κ F fuel (some m) (Int32.ofNat a) (Int32.ofNat b) (Int32.ofNat k) (MH m (wp V (cpy (vp V) (vp V) (14 * a + 6) (14 * b + 6) (k - 6))) σ) = some ((), MH m (wp V (va_up (cpy (vp V) (vp V) (14 * a + 6) (14 * b + 6) 8) (14 * b + 2) (vp V (14 * a + 2)))) σ)
  | 0, fuel, k, hk, h6, hf => by
    obtain ⟨f, rfl⟩ : ∃ f, fuel = f + 1 := ⟨fuel - 1, by omega⟩
    have hk : k = 14 := by omega
    subst hk
    rw [f_X6_copies_3, f_X6_copies_3b, if_pos (by decide), MH_ck, gB1_s, q_of2 ha, gB2_s, MH_ck, gB1_s, q_lay2 hm hb, gB2_s, wp_wp]
    have : vp (wp V (cpy (vp V) (vp V) (14 * a + 6) (14 * b + 6) 8)) (14 * a + 2) = vp V (14 * a + 2) := by
      show cpy (vp V) (vp V) (14 * a + 6) (14 * b + 6) 8 (14 * a + 2) = _
      unfold cpy
      rw [if_neg (by omega)]
    show some ((), MH m (wp V (va_up (cpy (vp V) (vp V) (14 * a + 6) (14 * b + 6) 8) (14 * b + 2) (vp (wp V (cpy (vp V) (vp V) (14 * a + 6) (14 * b + 6) 8)) (14 * a + 2)))) σ) = _
    rw [this]
  | d + 1, fuel, k, hk, h6, hf => by
    obtain ⟨f, rfl⟩ : ∃ f, fuel = f + 1 := ⟨fuel - 1, by omega⟩
    have c4 : ¬ ((14 : Int32) ≤ Int32.ofNat k) := by rw [L14, i3_le (by omega) (by omega)]; omega
    have ih := q_copies3 hm ha hb hab d f (k + 1) (by omega) (by omega) (by omega)
    have hv : vp (wp V (cpy (vp V) (vp V) (14 * a + 6) (14 * b + 6) (k - 6))) (14 * a + k) = vp V (14 * a + 6 + (k - 6)) := by
      show cpy (vp V) (vp V) (14 * a + 6) (14 * b + 6) (k - 6) (14 * a + k) = _
      unfold cpy
      rw [if_neg (by omega), show 14 * a + k = 14 * a + 6 + (k - 6) by omega]
    rw [f_X6_copies_3, f_X6_copies_3b, if_neg c4, MH_ck, gB1_s, q_of (by omega), gB2_s, MH_ck, gB1_s, q_lay hm (by omega), gB2_s, wp_wp, hv, i3_s]
    show f_X6_copies_3 κ F f (some m) (Int32.ofNat a) (Int32.ofNat b) (Int32.ofNat (k + 1)) (MH m (wp V (va_up (cpy (vp V) (vp V) (14 * a + 6) (14 * b + 6) (k - 6)) (14 * b + k) (vp V (14 * a + 6 + (k - 6))))) σ) = _
    rw [show 14 * b + k = 14 * b + 6 + (k - 6) by omega, cpy_s, show k - 6 + 1 = k + 1 - 6 by omega]
    exact ih
/-- a page is laid over another bed's page of the same kind -/
theorem q_copies {A : aG} (h : MR0 (vp V) A) (hm : κ.1 ≤ m) (hF : 40 ≤ F) {a b : Nat} (ha : a < 32) (hb : b < 32) (hab : a ≠ b) (hsa : aSt A a ≠ 0) (hsb : aSt A b ≠ 0) (hk : pKind (aPg A b) = pKind (aPg A a)) :
    ∃ P', f_X6_copies κ F (some m) (Int32.ofNat a) (Int32.ofNat b) (MH m V σ) = some ((), MH m (wp V P') σ) ∧ MR0 P' (layA A b (aPg A a)) ∧ (∀ k, (k < 14 * b ∨ 14 * b + 14 ≤ k) → P' k = vp V k) := by
  have h3 := q_copies3 (κ := κ) (F := F) (m := m) (V := V) (σ := σ) hm ha hb hab 8 F 6 (by omega) (by omega) (by omega)
  rw [show 6 - 6 = 0 from rfl, cpy_0] at h3
  have hout : ∀ k, (k < 14 * b ∨ 14 * b + 14 ≤ k) → va_up (cpy (vp V) (vp V) (14 * a + 6) (14 * b + 6) 8) (14 * b + 2) (vp V (14 * a + 2)) k = vp V k := fun k hk => by
    rw [vup_ne (by omega)]
    unfold cpy
    rw [if_neg (by omega)]
  have hin : ∀ w, w < 6 → w ≠ 2 → va_up (cpy (vp V) (vp V) (14 * a + 6) (14 * b + 6) 8) (14 * b + 2) (vp V (14 * a + 2)) (14 * b + w) = vp V (14 * b + w) := fun w hw hw2 => by
    rw [vup_ne (by omega)]
    unfold cpy
    rw [if_neg (by omega)]
  have hhas : ∀ w, w < 8 → va_up (cpy (vp V) (vp V) (14 * a + 6) (14 * b + 6) 8) (14 * b + 2) (vp V (14 * a + 2)) (14 * b + (6 + w)) = vp V (14 * a + (6 + w)) := fun w hw => by
    rw [vup_ne (by omega)]
    unfold cpy
    rw [if_pos (by omega), show 14 * a + 6 + (14 * b + (6 + w) - (14 * b + 6)) = 14 * a + (6 + w) by omega]
  obtain ⟨r1, r2, r3, r4, r5, r6⟩ := h.1 b hb
  refine ⟨_, by rw [f_X6_copies, f_X6_copies_0]; exact h3, MR0_set h hb hout rfl rfl (fun c hc => ⟨vup_ne hc, rfl, rfl⟩) ?_, hout⟩
  have hA : (layA A b (aPg A a)).1 b = (aSt A b, aPg A a, aFw A b) := vup_at _ _ _
  unfold MRb aSt aFw aPg
  rw [hA]
  refine ⟨(hin 0 (by omega) (by omega)).trans r1, r2, fun e => (hin 3 (by omega) (by omega)).trans (r3 e), (hin 4 (by omega) (by omega)).trans r4, (hin 5 (by omega) (by omega)).trans r5, fun _ => ?_⟩
  have q1 : va_up (cpy (vp V) (vp V) (14 * a + 6) (14 * b + 6) 8) (14 * b + 2) (vp V (14 * a + 2)) (14 * b + 1) = pKind (aPg A a) := by
    rw [hin 1 (by omega) (by omega), (MR_kind h hb hsb).1, hk]
  have q2 : va_up (cpy (vp V) (vp V) (14 * a + 6) (14 * b + 6) 8) (14 * b + 2) (vp V (14 * a + 2)) (14 * b + 2) = vp V (14 * a + 2) := vup_at _ _ _
  have r7 := (h.1 a ha).2.2.2.2.2 hsa
  cases hp : aPg A a with
  | inl l =>
    rw [hp] at r7 q1
    obtain ⟨a1, a2, a3, a4⟩ := r7
    refine ⟨q1, q2.trans a2, a3, fun i hi => ?_⟩
    have := a4 i hi
    rw [hhas (2 * i) (by omega), show 6 + 2 * i + 1 = 6 + (2 * i + 1) by omega, hhas (2 * i + 1) (by omega)]
    exact this
  | inr D =>
    rw [hp] at r7 q1
    obtain ⟨a1, a2, a3, a4⟩ := r7
    refine ⟨q1, q2.trans a2, a3, fun i hi => ?_⟩
    rw [hhas i (by omega)]
    exact a4 i hi
end Q
