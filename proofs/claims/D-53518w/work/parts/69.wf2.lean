/-! the steps keep the invariants -/
theorem layA_layA (A : aG) (b : Nat) (p q : Pg) : layA (layA A b p) b q = layA A b q := by
  refine aG_ext (fun c => ?_) rfl
  by_cases h : c = b
  · subst h
    show va_up (va_up A.1 c _) c _ c = va_up A.1 c _ c
    rw [vup_at, vup_at]
    show (((va_up A.1 c (aSt A c, p, aFw A c)) c).1, q, ((va_up A.1 c (aSt A c, p, aFw A c)) c).2.2) = _
    rw [vup_at]
  · show va_up (va_up A.1 b _) b _ c = va_up A.1 b _ c
    rw [vup_ne h, vup_ne h, vup_ne h]
theorem layA_1 (A : aG) (b c : Nat) (p : Pg) : (layA A b p).1 c = if c = b then (aSt A b, p, aFw A b) else A.1 c := by
  show va_up A.1 b _ c = _
  unfold va_up
  rfl
theorem layA_comm {A : aG} {b c : Nat} {p q : Pg} (h : b ≠ c) : layA (layA A b p) c q = layA (layA A c q) b p := by
  refine aG_ext (fun e => ?_) rfl
  rw [layA_1, layA_1, layA_1, layA_1]
  have h1 : aSt (layA A b p) c = aSt A c ∧ aFw (layA A b p) c = aFw A c := by unfold aSt aFw; rw [layA_1, if_neg (fun e => h e.symm)]; exact ⟨rfl, rfl⟩
  have h2 : aSt (layA A c q) b = aSt A b ∧ aFw (layA A c q) b = aFw A b := by unfold aSt aFw; rw [layA_1, if_neg h]; exact ⟨rfl, rfl⟩
  rw [h1.1, h1.2, h2.1, h2.2]
  by_cases e1 : e = c
  · rw [if_pos e1, if_neg (fun e2 => h (e2.symm.trans e1)), if_pos e1]
  · rw [if_neg e1]
    by_cases e2 : e = b
    · rw [if_pos e2, if_pos e2]
    · rw [if_neg e2, if_neg e2, if_neg e1]
theorem layA_self {A : aG} {b : Nat} {p : Pg} (h : aPg A b = p) : layA A b p = A := by
  refine aG_ext (fun c => ?_) rfl
  rw [layA_1]
  by_cases e : c = b
  · rw [if_pos e, e, ← h]
  · rw [if_neg e]
theorem digA_11 (A : aG) (b c : Nat) (p : Pg) : (digA A b p).1 c = if c = b then (1, p, aFw A b) else A.1 c := by
  rw [(digA_1 A b p).1]
  unfold va_up
  rfl
theorem upNew_2 (A : aG) (b : Nat) (v : Bool) : (upNew A b v).2 = (A.2.1, A.2.2.1, (match aDr A with | none => none | some d => some (va_up d.1 b v, d.2)), A.2.2.2.2) := by
  unfold upNew
  cases h : aDr A with
  | none =>
    exact Prod.ext rfl (Prod.ext rfl (Prod.ext h rfl))
  | some d => rfl
theorem digA_2 (A : aG) (b : Nat) (p : Pg) : (digA A b p).2 = (A.2.1, A.2.2.1, (match aDr A with | none => none | some d => some (va_up d.1 b true, d.2)), A.2.2.2.2) := upNew_2 _ _ _
theorem layA_digA (A : aG) (b : Nat) (p q : Pg) : layA (digA A b p) b q = digA A b q := by
  refine aG_ext (fun c => ?_) ?_
  · rw [layA_1, digA_11, digA_11]
    have h1 : aSt (digA A b p) b = 1 ∧ aFw (digA A b p) b = aFw A b := by unfold aSt aFw; rw [digA_11, if_pos rfl]; exact ⟨rfl, rfl⟩
    rw [h1.1, h1.2]
    by_cases e : c = b
    · rw [if_pos e, if_pos e]
    · rw [if_neg e, if_neg e, if_neg e]
  · show (digA A b p).2 = _
    rw [digA_2, digA_2]
theorem layA_digA_ne {A : aG} {b c : Nat} {p q : Pg} (h : b ≠ c) : layA (digA A b p) c q = digA (layA A c q) b p := by
  refine aG_ext (fun e => ?_) ?_
  · rw [layA_1, digA_11, digA_11, layA_1]
    have h1 : aSt (digA A b p) c = aSt A c ∧ aFw (digA A b p) c = aFw A c := by unfold aSt aFw; rw [digA_11, if_neg (fun e => h e.symm)]; exact ⟨rfl, rfl⟩
    have h2 : aFw (layA A c q) b = aFw A b := by unfold aFw; rw [layA_1, if_neg h]
    rw [h1.1, h1.2, h2]
    by_cases e1 : e = c
    · rw [if_pos e1, if_neg (fun e2 => h (e2.symm.trans e1)), if_pos e1]
    · rw [if_neg e1, if_neg e1]
  · show (digA A b p).2 = _
    rw [digA_2, digA_2]
    rfl
theorem leaveA_2 (A : aG) (b : Nat) : (leaveA A b).2 = (A.2.1, A.2.2.1, (match aDr A with | none => none | some d => some (if d.1 b then (va_up d.1 b false, d.2) else (d.1, va_up d.2.1 b true, d.2.2))), A.2.2.2.2) := by
  cases h : aDr A with
  | none =>
    have hn : isNew A b = false := by unfold isNew; rw [h]
    unfold leaveA
    rw [hn, if_neg (by decide)]
    unfold upLeft
    rw [h]
    exact Prod.ext rfl (Prod.ext rfl (Prod.ext h rfl))
  | some d =>
    have h1 := leaveA_d h b
    have h2 := leaveA_1 A b
    show ((leaveA A b).2.1, (leaveA A b).2.2.1, aDr (leaveA A b), (leaveA A b).2.2.2.2) = _
    rw [h2.2.1, h2.2.2.1, h1, h2.2.2.2]
theorem layA_leaveA {A : aG} {b c : Nat} {q : Pg} (h : b ≠ c) : layA (leaveA A b) c q = leaveA (layA A c q) b := by
  refine aG_ext (fun e => ?_) ?_
  · rw [layA_1]
    have hn : isNew (layA A c q) b = isNew A b := rfl
    have h1 : (leaveA A b).1 c = A.1 c := by
      rw [(leaveA_1 A b).1]
      split
      · exact vup_ne (fun e => h e.symm)
      · rfl
    have h3 : aSt (leaveA A b) c = aSt A c ∧ aFw (leaveA A b) c = aFw A c := by unfold aSt aFw; rw [h1]; exact ⟨rfl, rfl⟩
    rw [h3.1, h3.2, (leaveA_1 A b).1, (leaveA_1 (layA A c q) b).1, hn]
    have h4 : aPg (layA A c q) b = aPg A b ∧ aFw (layA A c q) b = aFw A b := by unfold aPg aFw; rw [layA_1, if_neg h]; exact ⟨rfl, rfl⟩
    rw [h4.1, h4.2]
    by_cases e1 : e = c
    · rw [if_pos e1]
      split
      · rw [vup_ne (fun e2 => h (e2.symm.trans e1)), layA_1, if_pos e1]
      · rw [layA_1, if_pos e1]
    · rw [if_neg e1]
      split
      · unfold va_up
        rw [layA_1, if_neg e1]
      · rw [layA_1, if_neg e1]
  · show (leaveA A b).2 = _
    rw [leaveA_2, leaveA_2]
    rfl
theorem stR_cg {A A' : aG} (hd : A'.2.2.1 = A.2.2.1) (w : Int32) (k : Nat) (l : Int32) : stR A' w k l = stR A w k l := by
  unfold stR aRd; rw [hd]
theorem stW_cg {A A' : aG} (hd : A'.2.1 = A.2.1) (k : Nat) (l : Int32) : stW A' k l = stW A k l := by
  unfold stW aRt; rw [hd]
theorem need_congr {A A' : aG} (w : Int32) (hr : A'.2.1 = A.2.1) (hd : A'.2.2.1 = A.2.2.1) : need A' w = need A w := by
  show stR A' w 3 (stR A' w 2 (stR A' w 1 (stR A' w 0 (stW A' 1 (stW A' 0 (nowC A')))))) = _
  rw [stR_cg hd, stR_cg hd, stR_cg hd, stR_cg hd, stW_cg hr, stW_cg hr, (rt_congr hr).2.1]
  rfl
theorem digg_congr {A A' : aG} {b : Nat} (hr : A'.2.1 = A.2.1) (hd : A'.2.2.1 = A.2.2.1) (h1 : aSt A' b = aSt A b) (h2 : aFw A' b = aFw A b) : digg A' b = digg A b := by
  generalize hw : (-1 : Int32) = w
  have h3 : need A' w = need A w := need_congr w hr hd
  have h4 : (aSt A' b = 2 ∧ aFw A' b ≤ need A' w) ↔ (aSt A b = 2 ∧ aFw A b ≤ need A w) := by rw [h1, h2, h3]
  subst hw
  unfold digg
  exact decide_eq_decide.mpr h4
def bs9 (g : Nat → Bool) (w : Nat → Int32) (f : Option Nat) (b : Nat) : Option Nat := if g b then (match f with
    | none => some b
    | some c => if w b < w c then some b else some c) else f
theorem best_9 (A : aG) (n : Nat) : best A n = (List.range n).foldl (bs9 (digg A) (aFw A)) none := rfl
theorem best_congr {A A' : aG} (h : ∀ b, digg A' b = digg A b) (h2 : ∀ b, aFw A' b = aFw A b) (n : Nat) : best A' n = best A n := by
  have h3 : digg A' = digg A := funext h
  have h4 : (fun b => aFw A' b) = (fun b => aFw A b) := funext h2
  rw [best_9, best_9, h3]
  exact congrArg (fun w => (List.range n).foldl (bs9 (digg A) w) none) h4
theorem wld_congr {A A' : aG} (h : ∀ b, aSt A' b = aSt A b) : ∀ n, wld A' n = wld A n
  | 0 => rfl
  | n + 1 => by rw [wld, wld, wld_congr h n, h]
theorem next_congr {A A' : aG} (hr : A'.2.1 = A.2.1) (hd : A'.2.2.1 = A.2.2.1) (h1 : ∀ b, aSt A' b = aSt A b) (h2 : ∀ b, aFw A' b = aFw A b) : next A' = next A := by
  unfold next wild
  rw [best_congr (fun b => digg_congr hr hd (h1 b) (h2 b)) h2, wld_congr h1]
theorem layA_st (A : aG) (b c : Nat) (p : Pg) : aSt (layA A b p) c = aSt A c ∧ aFw (layA A b p) c = aFw A c := by
  unfold aSt aFw
  rw [layA_1]
  by_cases e : c = b
  · rw [if_pos e, e]; exact ⟨rfl, rfl⟩
  · rw [if_neg e]; exact ⟨rfl, rfl⟩
theorem next_layA (A : aG) (b : Nat) (p : Pg) : next (layA A b p) = next A := next_congr rfl rfl (fun c => (layA_st A b c p).1) (fun c => (layA_st A b c p).2)
/-- what can be dug -/
def fre (A : aG) (b : Nat) : Bool := digg A b || decide (aSt A b = 0)
theorem cnt_pos {f : Nat → Bool} : ∀ {n : Nat}, 0 < cnt f n → ∃ b, b < n ∧ f b = true
  | 0, h => absurd h (Nat.not_lt_zero _)
  | n + 1, h => by
    rw [cnt_s] at h
    by_cases c : f n = true
    · exact ⟨n, by omega, c⟩
    · rw [if_neg c] at h
      obtain ⟨b, h1, h2⟩ := cnt_pos (f := f) (n := n) (by omega)
      exact ⟨b, by omega, h2⟩
theorem best_some {A : aG} : ∀ {n b : Nat}, b < n → digg A b = true → ∃ c, best A n = some c
  | 0, b, h, _ => absurd h (Nat.not_lt_zero _)
  | n + 1, b, h, hd => by
    rw [best_s]
    unfold bst
    by_cases c : b = n
    · subst c
      rw [if_pos hd]
      cases best A b with
      | none => exact ⟨_, rfl⟩
      | some e =>
        simp only
        split
        · exact ⟨_, rfl⟩
        · exact ⟨_, rfl⟩
    · obtain ⟨e, he⟩ := best_some (A := A) (n := n) (b := b) (by omega) hd
      rw [he]
      split
      · simp only
        split
        · exact ⟨_, rfl⟩
        · exact ⟨_, rfl⟩
      · exact ⟨_, rfl⟩
theorem wld_some {A : aG} : ∀ {d b : Nat}, b < 32 → 31 - b < d → aSt A b = 0 → ∃ c, wld A d = some c
  | 0, b, h, h2, _ => absurd h2 (Nat.not_lt_zero _)
  | d + 1, b, h, h2, hs => by
    rw [wld]
    split
    · exact ⟨_, rfl⟩
    · rename_i hn
      by_cases c : 31 - b = d
      · exact absurd (by rw [← c, show 31 - (31 - b) = b by omega]; exact hs) hn
      · exact wld_some h (by omega) hs
theorem many_next {A : aG} (h : 0 < many A) : ∃ b, next A = some b := by
  obtain ⟨b, hb, hf⟩ := cnt_pos h
  unfold next wild
  rcases Bool.or_eq_true_iff.mp hf with h1 | h1
  · obtain ⟨c, hc⟩ := best_some hb h1
    exact ⟨c, by rw [hc]; rfl⟩
  · obtain ⟨c, hc⟩ := wld_some (A := A) (d := 32) hb (by omega) (of_decide_eq_true h1)
    cases hb2 : best A 32 with
    | some e => exact ⟨e, rfl⟩
    | none => exact ⟨c, by rw [hc]; rfl⟩
theorem cnt_le2 {f g : Nat → Bool} : ∀ (n : Nat), (∀ b, b < n → f b = true → g b = true) → cnt f n ≤ cnt g n
  | 0, _ => Nat.le_refl _
  | n + 1, h => by
    rw [cnt_s, cnt_s]
    have ih := cnt_le2 (f := f) (g := g) n (fun b hb => h b (by omega))
    by_cases c : f n = true
    · rw [if_pos c, if_pos (h n (by omega) c)]; omega
    · rw [if_neg c]; omega
theorem cnt_but {f g : Nat → Bool} {c : Nat} : ∀ (n : Nat), c < n → (∀ b, b < n → b ≠ c → f b = true → g b = true) → cnt f n ≤ cnt g n + 1
  | 0, h, _ => absurd h (Nat.not_lt_zero _)
  | n + 1, h, h2 => by
    rw [cnt_s, cnt_s]
    by_cases e : n = c
    · have ih := cnt_le2 (f := f) (g := g) n (fun b hb => h2 b (by omega) (by omega))
      split <;> split <;> omega
    · have ih := cnt_but (f := f) (g := g) (c := c) n (by omega) (fun b hb => h2 b (by omega))
      by_cases c1 : f n = true
      · rw [if_pos c1, if_pos (h2 n (by omega) e c1)]; omega
      · rw [if_neg c1]; omega
theorem fre_congr {A A' : aG} {b : Nat} (hr : A'.2.1 = A.2.1) (hd : A'.2.2.1 = A.2.2.1) (h : A'.1 b = A.1 b) : fre A' b = fre A b := by
  unfold fre
  rw [digg_congr hr hd (by unfold aSt; rw [h]) (by unfold aFw; rw [h])]
  unfold aSt
  rw [h]
/-- a dig takes one, no more -/
theorem many_dig (A : aG) {b : Nat} (hb : b < 32) (p : Pg) : many A ≤ many (digA A b p) + 1 := cnt_but 32 hb (fun c hc hne h => by
  have e := digA_1 A b p
  have := fre_congr (A := A) (A' := digA A b p) (b := c) e.2.1 e.2.2.1 (by rw [digA_11, if_neg hne])
  exact (this.trans h))
theorem many_lay (A : aG) (b : Nat) (p : Pg) : many (layA A b p) = many A := by
  have h : ∀ c, fre (layA A b p) c = fre A c := fun c => by
    unfold fre
    rw [digg_congr (A := A) (A' := layA A b p) rfl rfl (layA_st A b c p).1 (layA_st A b c p).2, (layA_st A b c p).1]
  unfold many
  exact congrArg (fun f => cnt f 32) (funext h)
theorem many_leave (A : aG) (b : Nat) : many A ≤ many (leaveA A b) := cnt_le2 32 (fun c hc h => by
  have e := leaveA_1 A b
  by_cases hcb : c = b
  · subst hcb
    by_cases hn : isNew A c = true
    · have : aSt (leaveA A c) c = 0 := by unfold aSt; rw [e.1, if_pos hn, vup_at]
      simp [this]
    · have := fre_congr (A := A) (A' := leaveA A c) (b := c) e.2.1 e.2.2.1 (by rw [e.1, if_neg hn])
      exact this.trans h
  · have := fre_congr (A := A) (A' := leaveA A b) (b := c) e.2.1 e.2.2.1 (by rw [e.1]; split; exact vup_ne hcb; rfl)
    exact this.trans h)
theorem many_setDD (A : aG) (b : Nat) : many (setDD A b) = many A := by
  have e := setDD_1 A b
  have h : ∀ c, fre (setDD A b) c = fre A c := fun c => fre_congr e.2.1 e.2.2.1 (by rw [e.1])
  unfold many
  exact congrArg (fun f => cnt f 32) (funext h)
theorem rch_dir {A : aG} {d b : Nat} {D : List Nat} (h : aPg A d = .inr D) : rch A d b ↔ (b = d ∨ b ∈ D) := by unfold rch; rw [dirL_of h]
theorem drD_d {A : aG} {d : aD} (h : aDr A = some d) : drD A = d.2.2 := by unfold drD; rw [h]
theorem any_of {A : aG} {d : aD} {b : Nat} (h : aDr A = some d) (hb : b < 32) (h2 : d.1 b = true) : anyNew A = true := any_iff.mpr ⟨d, h, b, hb, h2⟩
theorem isDr_d {A : aG} (h : isDr A = true) : ∃ d, aDr A = some d := by
  unfold isDr at h
  cases hd : aDr A with
  | none => rw [hd] at h; cases h
  | some d => exact ⟨d, rfl⟩
