/-! the reference: changes of a page -/
def ins {α : Type} (l : List α) (j : Nat) (x : α) : List α := l.take j ++ x :: l.drop j
theorem ins_len {α : Type} {l : List α} {j : Nat} {x : α} (h : j ≤ l.length) : (ins l j x).length = l.length + 1 := by
  unfold ins
  rw [List.length_append, List.length_cons, List.length_take, List.length_drop]
  omega
theorem ins_getD {α : Type} {l : List α} {j i : Nat} {x d : α} (h : j ≤ l.length) : (ins l j x).getD i d = if i < j then l.getD i d else if i = j then x else l.getD (i - 1) d := by
  unfold ins
  have hl : (l.take j).length = j := by rw [List.length_take]; omega
  simp only [List.getD_eq_getElem?_getD]
  by_cases h1 : i < j
  · rw [if_pos h1, List.getElem?_append_left (by omega), List.getElem?_take, if_pos h1]
  · rw [if_neg h1, List.getElem?_append_right (by omega), hl]
    by_cases h2 : i = j
    · rw [if_pos h2, h2, Nat.sub_self]; rfl
    · rw [if_neg h2, show i - j = (i - j - 1) + 1 by omega, List.getElem?_cons_succ, List.getElem?_drop, show j + (i - j - 1) = i - 1 by omega]
theorem i3_p (k : Nat) : Int32.ofNat (k + 1) - (1 : Int32) = Int32.ofNat k := i3_sub (a := k + 1) (b := 1) (by omega)
theorem i3_m (k : Nat) : Int32.ofNat (k + 1) + (-1 : Int32) = Int32.ofNat k := by
  rw [← i3_p k]
  exact (Int32.sub_eq_add_neg _ _).symm
/-- the page's part of a bed's row -/
def MRp (P : mR) (b : Nat) (p : Pg) : Prop := match p with
  | .inl l => P (14 * b + 1) = 0 ∧ P (14 * b + 2) = Int32.ofNat l.length ∧ l.length ≤ 4 ∧ ∀ i, i < l.length → P (14 * b + (6 + 2 * i)) = (l.getD i (0, 0)).1 ∧ P (14 * b + (6 + 2 * i + 1)) = (l.getD i (0, 0)).2
  | .inr D => P (14 * b + 1) = 1 ∧ P (14 * b + 2) = Int32.ofNat D.length ∧ D.length ≤ 6 ∧ ∀ i, i < D.length → P (14 * b + (6 + i)) = Int32.ofNat (D.getD i 0)
theorem getD_get {α : Type} {l : List α} {i : Nat} {x : α} (h : i < l.length) : l.getD i x = l[i] := by rw [List.getD_eq_getElem?_getD, List.getElem?_eq_getElem h]; rfl
theorem MRp_of {A : aG} {b : Nat} {P : mR} (h : MR0 P A) (hb : b < 32) (hs : aSt A b ≠ 0) : MRp P b (aPg A b) := by
  cases hp : aPg A b with
  | inl l => exact MR_leaf h hb hs hp
  | inr D => exact MR_dir h hb hs hp
theorem MR0_lay {A : aG} {b : Nat} {P P' : mR} {q : Pg} (h : MR0 P A) (hb : b < 32) (hP : ∀ j, j ≠ 14 * b + 2 → (j < 14 * b + 6 ∨ 14 * b + 14 ≤ j) → P' j = P j) (hp : MRp P' b q) : MR0 P' (layA A b q) := by
  refine MR0_set h hb (fun k hk => hP k (by omega) (by omega)) rfl rfl (fun c hc => ⟨vup_ne hc, rfl, rfl⟩) ?_
  obtain ⟨r1, r2, r3, r4, r5, r6⟩ := h.1 b hb
  have hA : (layA A b q).1 b = (aSt A b, q, aFw A b) := vup_at _ _ _
  unfold MRb aSt aFw aPg
  rw [hA, hP _ (by omega) (by omega), hP (14 * b + 3) (by omega) (by omega), hP (14 * b + 4) (by omega) (by omega), hP (14 * b + 5) (by omega) (by omega)]
  refine ⟨r1, r2, r3, r4, r5, fun _ => ?_⟩
  cases q with
  | inl l =>
    obtain ⟨a1, a2, a3, a4⟩ := hp
    exact ⟨a1, a2, a3, fun i hi => by have := a4 i hi; rwa [getD_get hi] at this⟩
  | inr D =>
    obtain ⟨a1, a2, a3, a4⟩ := hp
    exact ⟨a1, a2, a3, fun i hi => by have := a4 i hi; rwa [getD_get hi] at this⟩
section Q
variable {κ : gK} {F : Nat} {m : Nat} {V : mV} {σ : gS}
/-- an entry of a leaf is set -/
theorem q_setE {A : aG} (h : MR0 (vp V) A) (hm : κ.1 ≤ m) {b i : Nat} {l : List (Int32 × Int32)} (hb : b < 32) (hs : aSt A b ≠ 0) (hp : aPg A b = .inl l) (hi : i < l.length) {k v : Int32} :
    ∃ P', f_X6_setEntry κ F (some m) (Int32.ofNat b) (Int32.ofNat i) k v (MH m V σ) = some ((), MH m (wp V P') σ) ∧ MR0 P' (layA A b (.inl (l.set i (k, v)))) ∧ (∀ j, (j < 14 * b ∨ 14 * b + 14 ≤ j) → P' j = vp V j) := by
  obtain ⟨a1, a2, a3, a4⟩ := MR_leaf h hb hs hp
  refine ⟨_, q_setEntry hm (by omega), MR0_lay h hb (fun j h1 h2 => by rw [vup_ne (by omega), vup_ne (by omega)]) ?_, fun j hj => by rw [vup_ne (by omega), vup_ne (by omega)]⟩
  refine ⟨by rw [vup_ne (by omega), vup_ne (by omega)]; exact a1, by rw [vup_ne (by omega), vup_ne (by omega), List.length_set]; exact a2, by rw [List.length_set]; exact a3, fun e he => ?_⟩
  rw [List.length_set] at he
  by_cases h1 : e = i
  · subst h1
    rw [getD_get (by rw [List.length_set]; exact he), List.getElem_set_self]
    exact ⟨by rw [vup_ne (by omega)]; exact vup_at _ _ _, vup_at _ _ _⟩
  · rw [vup_ne (by omega), vup_ne (by omega), vup_ne (by omega), vup_ne (by omega), getD_get (by rw [List.length_set]; exact he), List.getElem_set_ne (fun e => h1 e.symm), ← getD_get (x := (0, 0)) he]
    exact a4 e he
theorem q_inserts8 {b j : Nat} {l : List (Int32 × Int32)} (hm : κ.1 ≤ m) (hb : b < 32) (hl : l.length ≤ 3) {key v : Int32} (hj : j ≤ l.length) (hge : ∀ i, j ≤ i → i < l.length → key < (l.getD i (0, 0)).1) (hle : j = 0 ∨ (l.getD (j - 1) (0, 0)).1 ≤ key)
    (h1 : vp V (14 * b + 1) = 0) (h2 : vp V (14 * b + 2) = Int32.ofNat l.length) : ∀ (k fuel : Nat) (P : mR), k < fuel → j ≤ k → k ≤ l.length → (∀ x, (x < 14 * b + 6 ∨ 14 * b + 14 ≤ x) → P x = vp V x) →
    (∀ i, i < k → P (14 * b + (6 + 2 * i)) = (l.getD i (0, 0)).1 ∧ P (14 * b + (6 + 2 * i + 1)) = (l.getD i (0, 0)).2) → (∀ i, k < i → i ≤ l.length → P (14 * b + (6 + 2 * i)) = (l.getD (i - 1) (0, 0)).1 ∧ P (14 * b + (6 + 2 * i + 1)) = (l.getD (i - 1) (0, 0)).2) →
    ∃ P', f_X6_inserts_8 κ F fuel (some m) (Int32.ofNat b) key v (Int32.ofNat k) (MH m (wp V P) σ) = some ((), MH m (wp V P') σ) ∧ MRp P' b (.inl (ins l j (key, v))) ∧ (∀ x, x ≠ 14 * b + 2 → (x < 14 * b + 6 ∨ 14 * b + 14 ≤ x) → P' x = vp V x) := by
  intro k
  have fin : ∀ (P : mR), (∀ x, (x < 14 * b + 6 ∨ 14 * b + 14 ≤ x) → P x = vp V x) →
    (∀ i, i < j → P (14 * b + (6 + 2 * i)) = (l.getD i (0, 0)).1 ∧ P (14 * b + (6 + 2 * i + 1)) = (l.getD i (0, 0)).2) → (∀ i, j < i → i ≤ l.length → P (14 * b + (6 + 2 * i)) = (l.getD (i - 1) (0, 0)).1 ∧ P (14 * b + (6 + 2 * i + 1)) = (l.getD (i - 1) (0, 0)).2) →
    ∃ P', f_X6_inserts_57 κ F (some m) (Int32.ofNat b) key v (Int32.ofNat j) (MH m (wp V P) σ) = some ((), MH m (wp V P') σ) ∧ MRp P' b (.inl (ins l j (key, v))) ∧ (∀ x, x ≠ 14 * b + 2 → (x < 14 * b + 6 ∨ 14 * b + 14 ≤ x) → P' x = vp V x) := by
    intro P hP hlo hhi
    have e2 : vp (wp V (va_up (va_up P (14 * b + (6 + 2 * j)) key) (14 * b + (6 + 2 * j + 1)) v)) (14 * b + 2) = Int32.ofNat l.length := by
      show va_up (va_up P (14 * b + (6 + 2 * j)) key) (14 * b + (6 + 2 * j + 1)) v (14 * b + 2) = _
      rw [vup_ne (by omega), vup_ne (by omega), hP _ (by omega), h2]
    refine ⟨va_up (va_up (va_up P (14 * b + (6 + 2 * j)) key) (14 * b + (6 + 2 * j + 1)) v) (14 * b + 2) (Int32.ofNat (l.length + 1)), ?_, ?_, fun x hx hx2 => by rw [vup_ne (by omega), vup_ne (by omega), vup_ne (by omega), hP x hx2]⟩
    · rw [f_X6_inserts_57, MH_ck, gB1_s, q_setEntry hm (by omega), gB2_s, MH_ck, gB1_s, wp_wp]
      show gB2 (f_X6_of κ F (some m) (Int32.ofNat b) (2 : Int32) (MH m (wp V (va_up (va_up P (14 * b + (6 + 2 * j)) key) (14 * b + (6 + 2 * j + 1)) v)) σ)) _ = _
      rw [q_of2 hb, gB2_s, MH_ck, gB1_s, e2, i3_s, q_lay2 hm hb, gB2_s, wp_wp]
      rfl
    · refine ⟨by rw [vup_ne (by omega), vup_ne (by omega), vup_ne (by omega), hP _ (by omega), h1], by rw [ins_len hj]; exact vup_at _ _ _, by rw [ins_len hj]; omega, fun i hi => ?_⟩
      rw [ins_len hj] at hi
      rw [ins_getD hj, vup_ne (by omega)]
      by_cases c1 : i < j
      · rw [if_pos c1, vup_ne (by omega), vup_ne (by omega), vup_ne (by omega), vup_ne (by omega), vup_ne (by omega)]
        exact hlo i c1
      · rw [if_neg c1]
        by_cases c2 : i = j
        · rw [if_pos c2, c2]
          exact ⟨by rw [vup_ne (by omega)]; exact vup_at _ _ _, by rw [vup_ne (by omega)]; exact vup_at _ _ _⟩
        · rw [if_neg c2, vup_ne (by omega), vup_ne (by omega), vup_ne (by omega), vup_ne (by omega), vup_ne (by omega)]
          exact hhi i (by omega) (by omega)
  induction k with
  | zero =>
    intro fuel P hf hjk hkl hP hlo hhi
    obtain ⟨f, rfl⟩ : ∃ f, fuel = f + 1 := ⟨fuel - 1, by omega⟩
    have hj0 : j = 0 := by omega
    subst hj0
    rw [f_X6_inserts_8, f_X6_inserts_8b, if_pos (by decide)]
    exact fin P hP hlo hhi
  | succ k ih =>
    intro fuel P hf hjk hkl hP hlo hhi
    obtain ⟨f, rfl⟩ : ∃ f, fuel = f + 1 := ⟨fuel - 1, by omega⟩
    have c0 : ¬ (Int32.ofNat (k + 1) ≤ (0 : Int32)) := by rw [show (0 : Int32) = Int32.ofNat 0 from rfl, i3_le (by omega) (by omega)]; omega
    have hk1 := hlo k (by omega)
    have q1 : f_X6_keyAt κ F (some m) (Int32.ofNat b) (Int32.ofNat k) (MH m (wp V P) σ) = some ((l.getD k (0, 0)).1, MH m (wp V P) σ) := by rw [q_keyAt (V := wp V P) (by omega)]; show some (P _, _) = _; rw [hk1.1]
    have q2 : f_X6_valueAt κ F (some m) (Int32.ofNat b) (Int32.ofNat k) (MH m (wp V P) σ) = some ((l.getD k (0, 0)).2, MH m (wp V P) σ) := by rw [q_valueAt (V := wp V P) (by omega)]; show some (P _, _) = _; rw [hk1.2]
    rw [f_X6_inserts_8, f_X6_inserts_8b, if_neg c0, MH_ck, gB1_s, i3_p, q1, gB2_s]
    by_cases c : (l.getD k (0, 0)).1 ≤ key
    · rw [if_pos c]
      have hjk1 : j = k + 1 := by
        rcases Nat.lt_or_ge k j with h | h
        · omega
        · exact absurd c (Int32.not_le.mpr (hge k h (by omega)))
      rw [← hjk1]
      rw [← hjk1] at hlo hhi
      exact fin P hP hlo hhi
    · rw [if_neg c, MH_ck, gB1_s, q1, gB2_s, MH_ck, gB1_s, q2, gB2_s, MH_ck, gB1_s, q_setEntry hm (by omega), gB2_s, i3_m, wp_wp]
      have hjk1 : j ≤ k := by
        rcases Nat.lt_or_ge k j with h | h
        · have : j = k + 1 := by omega
          rcases hle with h0 | h0
          · omega
          · rw [this] at h0; exact absurd h0 c
        · exact h
      show ∃ P', f_X6_inserts_8 κ F f (some m) (Int32.ofNat b) key v (Int32.ofNat k) (MH m (wp V (va_up (va_up P (14 * b + (6 + 2 * (k + 1))) (l.getD k (0, 0)).1) (14 * b + (6 + 2 * (k + 1) + 1)) (l.getD k (0, 0)).2)) σ) = _ ∧ _
      refine ih f _ (by omega) hjk1 (by omega) (fun x hx => by rw [vup_ne (by omega), vup_ne (by omega), hP x hx]) (fun i hi => by rw [vup_ne (by omega), vup_ne (by omega), vup_ne (by omega), vup_ne (by omega)]; exact hlo i (by omega)) (fun i hi hi2 => ?_)
      by_cases e : i = k + 1
      · subst e
        exact ⟨by rw [vup_ne (by omega)]; exact vup_at _ _ _, vup_at _ _ _⟩
      · rw [vup_ne (by omega), vup_ne (by omega), vup_ne (by omega), vup_ne (by omega)]
        exact hhi i (by omega) hi2
/-- an entry more in a leaf -/
theorem q_inserts {A : aG} (h : MR0 (vp V) A) (hm : κ.1 ≤ m) (hF : 40 ≤ F) {b j : Nat} {l : List (Int32 × Int32)} (hb : b < 32) (hs : aSt A b ≠ 0) (hp : aPg A b = .inl l) (hl : l.length ≤ 3) {key v : Int32} (hj : j ≤ l.length) (hge : ∀ i, j ≤ i → i < l.length → key < (l.getD i (0, 0)).1) (hle : j = 0 ∨ (l.getD (j - 1) (0, 0)).1 ≤ key) :
    ∃ P', f_X6_inserts κ F (some m) (Int32.ofNat b) key v (MH m V σ) = some ((), MH m (wp V P') σ) ∧ MR0 P' (layA A b (.inl (ins l j (key, v)))) ∧ (∀ x, (x < 14 * b ∨ 14 * b + 14 ≤ x) → P' x = vp V x) := by
  obtain ⟨a1, a2, a3, a4⟩ := MR_leaf h hb hs hp
  obtain ⟨P', p1, p2, p3⟩ := q_inserts8 (κ := κ) (F := F) (m := m) (V := V) (σ := σ) (v := v) hm hb hl hj hge hle a1 a2 l.length F (vp V) (by omega) hj (Nat.le_refl _) (fun _ _ => rfl) a4 (fun i h1 h2 => by omega)
  refine ⟨P', ?_, MR0_lay h hb p3 p2, fun x hx => p3 x (by omega) (by omega)⟩
  rw [f_X6_inserts, f_X6_inserts_0, MH_ck, gB1_s, q_of2 hb, gB2_s, a2]
  exact p1
theorem q_insertLeaf8 {b j c : Nat} {D : List Nat} (hm : κ.1 ≤ m) (hb : b < 32) (hl : D.length ≤ 5) (hj : j ≤ D.length)
    (h1 : vp V (14 * b + 1) = 1) (h2 : vp V (14 * b + 2) = Int32.ofNat D.length) : ∀ (k fuel : Nat) (P : mR), k < fuel → j ≤ k → k ≤ D.length → (∀ x, (x < 14 * b + 6 ∨ 14 * b + 14 ≤ x) → P x = vp V x) →
    (∀ i, i < k → P (14 * b + (6 + i)) = Int32.ofNat (D.getD i 0)) → (∀ i, k < i → i ≤ D.length → P (14 * b + (6 + i)) = Int32.ofNat (D.getD (i - 1) 0)) →
    ∃ P', f_X6_insertLeaf_8 κ F fuel (some m) (Int32.ofNat b) (Int32.ofNat j) (Int32.ofNat c) (Int32.ofNat k) (MH m (wp V P) σ) = some ((), MH m (wp V P') σ) ∧ MRp P' b (.inr (ins D j c)) ∧ (∀ x, x ≠ 14 * b + 2 → (x < 14 * b + 6 ∨ 14 * b + 14 ≤ x) → P' x = vp V x) := by
  intro k
  have h6 : ∀ i : Nat, (6 : Int32) + Int32.ofNat i = Int32.ofNat (6 + i) := fun i => i3_add 6 i
  induction k with
  | zero =>
    intro fuel P hf hjk hkl hP hlo hhi
    obtain ⟨f, rfl⟩ : ∃ f, fuel = f + 1 := ⟨fuel - 1, by omega⟩
    have hj0 : j = 0 := by omega
    subst hj0
    have e2 : vp (wp V (va_up P (14 * b + (6 + 0)) (Int32.ofNat c))) (14 * b + 2) = Int32.ofNat D.length := by
      show va_up P (14 * b + (6 + 0)) (Int32.ofNat c) (14 * b + 2) = _
      rw [vup_ne (by omega), hP _ (by omega), h2]
    refine ⟨va_up (va_up P (14 * b + (6 + 0)) (Int32.ofNat c)) (14 * b + 2) (Int32.ofNat (D.length + 1)), ?_, ⟨?_, ?_, ?_, fun i hi => ?_⟩, fun x hx hx2 => by rw [vup_ne (by omega), vup_ne (by omega), hP x hx2]⟩
    · rw [f_X6_insertLeaf_8, f_X6_insertLeaf_8b, if_pos (Int32.le_refl _), MH_ck, gB1_s, h6, q_lay hm (by omega), gB2_s, MH_ck, gB1_s, wp_wp]
      show gB2 (f_X6_of κ F (some m) (Int32.ofNat b) (2 : Int32) (MH m (wp V (va_up P (14 * b + (6 + 0)) (Int32.ofNat c))) σ)) _ = _
      rw [q_of2 hb, gB2_s, MH_ck, gB1_s, e2, i3_s, q_lay2 hm hb, gB2_s, wp_wp]
      rfl
    · rw [vup_ne (by omega), vup_ne (by omega), hP _ (by omega), h1]
    · rw [ins_len hj]; exact vup_at _ _ _
    · rw [ins_len hj]; omega
    · rw [ins_len hj] at hi
      rw [ins_getD hj, vup_ne (by omega), if_neg (by omega)]
      by_cases c2 : i = 0
      · rw [if_pos c2, c2]; exact vup_at _ _ _
      · rw [if_neg c2, vup_ne (by omega)]
        exact hhi i (by omega) (by omega)
  | succ k ih =>
    intro fuel P hf hjk hkl hP hlo hhi
    obtain ⟨f, rfl⟩ : ∃ f, fuel = f + 1 := ⟨fuel - 1, by omega⟩
    by_cases hjk1 : j = k + 1
    · subst hjk1
      have e2 : vp (wp V (va_up P (14 * b + (6 + (k + 1))) (Int32.ofNat c))) (14 * b + 2) = Int32.ofNat D.length := by
        show va_up P (14 * b + (6 + (k + 1))) (Int32.ofNat c) (14 * b + 2) = _
        rw [vup_ne (by omega), hP _ (by omega), h2]
      refine ⟨va_up (va_up P (14 * b + (6 + (k + 1))) (Int32.ofNat c)) (14 * b + 2) (Int32.ofNat (D.length + 1)), ?_, ⟨?_, ?_, ?_, fun i hi => ?_⟩, fun x hx hx2 => by rw [vup_ne (by omega), vup_ne (by omega), hP x hx2]⟩
      · rw [f_X6_insertLeaf_8, f_X6_insertLeaf_8b, if_pos (Int32.le_refl _), MH_ck, gB1_s, h6, q_lay hm (by omega), gB2_s, MH_ck, gB1_s, wp_wp]
        show gB2 (f_X6_of κ F (some m) (Int32.ofNat b) (2 : Int32) (MH m (wp V (va_up P (14 * b + (6 + (k + 1))) (Int32.ofNat c))) σ)) _ = _
        rw [q_of2 hb, gB2_s, MH_ck, gB1_s, e2, i3_s, q_lay2 hm hb, gB2_s, wp_wp]
        rfl
      · rw [vup_ne (by omega), vup_ne (by omega), hP _ (by omega), h1]
      · rw [ins_len hj]; exact vup_at _ _ _
      · rw [ins_len hj]; omega
      · rw [ins_len hj] at hi
        rw [ins_getD hj, vup_ne (by omega)]
        by_cases c1 : i < k + 1
        · rw [if_pos c1, vup_ne (by omega)]; exact hlo i c1
        · rw [if_neg c1]
          by_cases c2 : i = k + 1
          · rw [if_pos c2, c2]; exact vup_at _ _ _
          · rw [if_neg c2, vup_ne (by omega)]
            exact hhi i (by omega) (by omega)
    · have c0 : ¬ (Int32.ofNat (k + 1) ≤ Int32.ofNat j) := by rw [i3_le (by omega) (by omega)]; omega
      have q1 : f_X6_leafAt κ F (some m) (Int32.ofNat b) (Int32.ofNat k) (MH m (wp V P) σ) = some (Int32.ofNat (D.getD k 0), MH m (wp V P) σ) := by rw [q_leafAt (V := wp V P) (by omega)]; show some (P _, _) = _; rw [hlo k (by omega)]
      rw [f_X6_insertLeaf_8, f_X6_insertLeaf_8b, if_neg c0, MH_ck, gB1_s, i3_p, q1, gB2_s, MH_ck, gB1_s, h6, q_lay hm (by omega), gB2_s, i3_m, wp_wp]
      show ∃ P', f_X6_insertLeaf_8 κ F f (some m) (Int32.ofNat b) (Int32.ofNat j) (Int32.ofNat c) (Int32.ofNat k) (MH m (wp V (va_up P (14 * b + (6 + (k + 1))) (Int32.ofNat (D.getD k 0)))) σ) = _ ∧ _
      refine ih f _ (by omega) (by omega) (by omega) (fun x hx => by rw [vup_ne (by omega), hP x hx]) (fun i hi => by rw [vup_ne (by omega)]; exact hlo i (by omega)) (fun i hi hi2 => ?_)
      by_cases e : i = k + 1
      · subst e
        exact vup_at _ _ _
      · rw [vup_ne (by omega)]
        exact hhi i (by omega) hi2
/-- a leaf more in a directory -/
theorem q_insertLeaf {A : aG} (h : MR0 (vp V) A) (hm : κ.1 ≤ m) (hF : 40 ≤ F) {b j c : Nat} {D : List Nat} (hb : b < 32) (hs : aSt A b ≠ 0) (hp : aPg A b = .inr D) (hl : D.length ≤ 5) (hj : j ≤ D.length) :
    ∃ P', f_X6_insertLeaf κ F (some m) (Int32.ofNat b) (Int32.ofNat j) (Int32.ofNat c) (MH m V σ) = some ((), MH m (wp V P') σ) ∧ MR0 P' (layA A b (.inr (ins D j c))) ∧ (∀ x, (x < 14 * b ∨ 14 * b + 14 ≤ x) → P' x = vp V x) := by
  obtain ⟨a1, a2, a3, a4⟩ := MR_dir h hb hs hp
  obtain ⟨P', p1, p2, p3⟩ := q_insertLeaf8 (κ := κ) (F := F) (m := m) (V := V) (σ := σ) (c := c) hm hb hl hj a1 a2 D.length F (vp V) (by omega) hj (Nat.le_refl _) (fun _ _ => rfl) a4 (fun i h1 h2 => by omega)
  refine ⟨P', ?_, MR0_lay h hb p3 p2, fun x hx => p3 x (by omega) (by omega)⟩
  rw [f_X6_insertLeaf, f_X6_insertLeaf_0, MH_ck, gB1_s, q_of2 hb, gB2_s, a2]
  exact p1
end Q
