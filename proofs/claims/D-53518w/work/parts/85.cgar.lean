/-! THE COMPONENT: a garden object in the heap tells an abstract garden. Owners: 0 shared and never written; t the garden's object, t+1 pages, t+2 fresh, t+3 left, t+4 states, t+5 freedWith, t+6 roots' row, t+7 and t+8 the roots, t+9 readers' row, t+10 the draft, t+11 its sets. -/
abbrev vA : Type := (Nat → Int32) ⊕ ((Nat → Int64) ⊕ ((Nat → UInt32) ⊕ ((Nat → UInt64) ⊕ (Nat → Option Nat))))
def rA (f : Nat → Option Nat) : vA := .inr (.inr (.inr (.inr f)))
/-- pages, states, freedWith, roots, readers, the two roots, the draft -/
abbrev gA : Type := Nat × Nat × Nat × Nat × Nat × Nat × Nat × Option Nat
abbrev c_pg (c : gA) : Nat := c.1
abbrev c_st (c : gA) : Nat := c.2.1
abbrev c_fw (c : gA) : Nat := c.2.2.1
abbrev c_rt (c : gA) : Nat := c.2.2.2.1
abbrev c_rd (c : gA) : Nat := c.2.2.2.2.1
abbrev c_r0 (c : gA) : Nat := c.2.2.2.2.2.1
abbrev c_r1 (c : gA) : Nat := c.2.2.2.2.2.2.1
abbrev c_dr (c : gA) : Option Nat := c.2.2.2.2.2.2.2
/-- the constants: three states -/
def KS (κ : gK) : Prop := κ.2 0 ≠ κ.2 1 ∧ κ.2 0 ≠ κ.2 2 ∧ κ.2 1 ≠ κ.2 2
/-- the beds and their array -/
def BD (κ : gK) (B : Nat → Nat) (bd : Nat) (σ : gS) (ω : Nat → Nat) : Prop := bdK κ B σ ω ∧ ∃ f, oc κ σ ω 0 bd (.inl (3, 32, rA f)) ∧ ∀ b, b < 32 → f b = some (B b)
def gCell (bd : Nat) (c : gA) (A : aG) : gC := .inr (7, [.ref (c_pg c), .ref (c_st c), .ref bd, .ref (c_fw c), .ref (c_rt c), .ref (c_rd c), va_rf (c_dr c), .int (aCm A), .int (aLs A)])
def vDir (o : Option Nat) : Int32 := match o with
  | none => -1000
  | some d => Int32.ofNat d
def rCell (x : aRo) : gC := .inr (4, [.int x.1, .int (vDir x.2.1), .int (if x.2.2 then 1 else 0)])
/-- a page -/
def PG (κ : gK) (σ : gS) (ω : Nat → Nat) (a : Nat) (p : Pg) : Prop := match p with
  | .inl l => ∃ (ka va : Nat) (fk fv : Nat → Int32), oc κ σ ω 0 a (.inr (2, [.ref ka, .ref va])) ∧ oc κ σ ω 0 ka (.inl (0, l.length, .inl fk)) ∧ oc κ σ ω 0 va (.inl (0, l.length, .inl fv)) ∧ ∀ i, i < l.length → fk i = (l.getD i (0, 0)).1 ∧ fv i = (l.getD i (0, 0)).2
  | .inr D => ∃ (la : Nat) (f : Nat → Int32), oc κ σ ω 0 a (.inr (3, [.ref la])) ∧ oc κ σ ω 0 la (.inl (0, D.length, .inl f)) ∧ ∀ i, i < D.length → f i = Int32.ofNat (D.getD i 0)
def GSt (κ : gK) (σ : gS) (ω : Nat → Nat) (t st : Nat) (A : aG) : Prop := ∃ f, oc κ σ ω t st (.inl (4, 32, rA f)) ∧ ∀ b, b < 32 → f b = κ.2 (aSt A b)
def GFw (κ : gK) (σ : gS) (ω : Nat → Nat) (t fw : Nat) (A : aG) : Prop := ∃ f, oc κ σ ω t fw (.inl (0, 32, .inl f)) ∧ ∀ b, b < 32 → f b = aFw A b
def GRt (κ : gK) (σ : gS) (ω : Nat → Nat) (t rt r0 r1 : Nat) (A : aG) : Prop := ∃ f, oc κ σ ω (t + 6) rt (.inl (5, 2, rA f)) ∧ f 0 = some r0 ∧ f 1 = some r1 ∧ oc κ σ ω (t + 7) r0 (rCell (aRt A 0)) ∧ oc κ σ ω (t + 8) r1 (rCell (aRt A 1))
def GRd (κ : gK) (σ : gS) (ω : Nat → Nat) (t rd : Nat) (A : aG) : Prop := ∃ f, oc κ σ ω t rd (.inl (6, 4, rA f)) ∧ ∀ k, k < 4 → match aRd A k with
  | none => f k = none
  | some q => ∃ a, f k = some a ∧ oc κ σ ω 0 a (.inr (5, [.int q.1, .int (Int32.ofNat q.2)]))
def GPg (κ : gK) (B : Nat → Nat) (σ : gS) (ω : Nat → Nat) (t pg : Nat) (A : aG) : Prop := ∃ L, LM κ B σ ω (t + 1) pg L ∧ ∀ b, b < 32 → if aSt A b = 0 then vls L b = none else ∃ a, vls L b = some (some a) ∧ PG κ σ ω a (aPg A b)
def GSet (κ : gK) (B : Nat → Nat) (σ : gS) (ω : Nat → Nat) (u t s : Nat) (p : Nat → Bool) : Prop := ∃ (m : Nat) (L : List mE), oc κ σ ω u s (.inr (12, [.ref m])) ∧ LM κ B σ ω t m L ∧ ∀ b, b < 32 → (fnd b L).isSome = p b
def GDr (κ : gK) (B : Nat → Nat) (σ : gS) (ω : Nat → Nat) (t : Nat) (dr : Option Nat) (A : aG) : Prop := match aDr A with
  | none => dr = none
  | some d => ∃ da fs ls, dr = some da ∧ oc κ σ ω (t + 10) da (.inr (6, [.ref fs, .ref ls, .int (Int32.ofNat d.2.2)])) ∧ GSet κ B σ ω (t + 11) (t + 2) fs d.1 ∧ GSet κ B σ ω (t + 11) (t + 3) ls d.2.1
def GR (κ : gK) (B : Nat → Nat) (bd : Nat) (σ : gS) (ω : Nat → Nat) (t g : Nat) (c : gA) (A : aG) : Prop :=
  oc κ σ ω t g (gCell bd c A) ∧ GSt κ σ ω (t + 4) (c_st c) A ∧ GFw κ σ ω (t + 5) (c_fw c) A ∧ GRt κ σ ω t (c_rt c) (c_r0 c) (c_r1 c) A ∧ GRd κ σ ω (t + 9) (c_rd c) A ∧ GPg κ B σ ω t (c_pg c) A ∧ GDr κ B σ ω t (c_dr c) A ∧ ∀ b, b < 32 → aSt A b < 3
def gT (t : Nat) (x : Nat) : Prop := t ≤ x ∧ x ≤ t + 15
def gU (t : Nat) (x : Nat) : Prop := t ≤ x ∧ x ≤ t + 11
theorem PG_mv {κ : gK} {T : Nat → Prop} {c n : Nat} {σ σ1 : gS} {ω ω1 : Nat → Nat} {a : Nat} {p : Pg} (h : PG κ σ ω a p) (e : ext T c n σ ω σ1 ω1) (h0 : ¬ T 0) : PG κ σ1 ω1 a p := by
  cases p with
  | inl l => obtain ⟨ka, va, fk, fv, h1, h2, h3, h4⟩ := h; exact ⟨ka, va, fk, fv, oc_mv h1 e h0, oc_mv h2 e h0, oc_mv h3 e h0, h4⟩
  | inr D => obtain ⟨la, f, h1, h2, h3⟩ := h; exact ⟨la, f, oc_mv h1 e h0, oc_mv h2 e h0, h3⟩
theorem BD_mv {κ : gK} {B : Nat → Nat} {bd : Nat} {T : Nat → Prop} {c n : Nat} {σ σ1 : gS} {ω ω1 : Nat → Nat} (h : BD κ B bd σ ω) (e : ext T c n σ ω σ1 ω1) (h0 : ¬ T 0) : BD κ B bd σ1 ω1 := ⟨bdK_mv h.1 e h0, (let ⟨f, h1, h2⟩ := h.2; ⟨f, oc_mv h1 e h0, h2⟩)⟩
theorem GSt_mv {κ : gK} {T : Nat → Prop} {c n : Nat} {σ σ1 : gS} {ω ω1 : Nat → Nat} {t a : Nat} {A : aG} (h : GSt κ σ ω t a A) (e : ext T c n σ ω σ1 ω1) (h0 : ¬ T t) : GSt κ σ1 ω1 t a A := by
  obtain ⟨f, h1, h2⟩ := h; exact ⟨f, oc_mv h1 e h0, h2⟩
theorem GFw_mv {κ : gK} {T : Nat → Prop} {c n : Nat} {σ σ1 : gS} {ω ω1 : Nat → Nat} {t a : Nat} {A : aG} (h : GFw κ σ ω t a A) (e : ext T c n σ ω σ1 ω1) (h0 : ¬ T t) : GFw κ σ1 ω1 t a A := by
  obtain ⟨f, h1, h2⟩ := h; exact ⟨f, oc_mv h1 e h0, h2⟩
theorem GRt_mv {κ : gK} {T : Nat → Prop} {c n : Nat} {σ σ1 : gS} {ω ω1 : Nat → Nat} {t a r0 r1 : Nat} {A : aG} (h : GRt κ σ ω t a r0 r1 A) (e : ext T c n σ ω σ1 ω1) (x6 : ¬ T (t + 6)) (x7 : ¬ T (t + 7)) (x8 : ¬ T (t + 8)) : GRt κ σ1 ω1 t a r0 r1 A := by
  obtain ⟨f, h1, h2, h3, h4, h5⟩ := h; exact ⟨f, oc_mv h1 e x6, h2, h3, oc_mv h4 e x7, oc_mv h5 e x8⟩
theorem GRd_mv {κ : gK} {T : Nat → Prop} {c n : Nat} {σ σ1 : gS} {ω ω1 : Nat → Nat} {t a : Nat} {A : aG} (h : GRd κ σ ω t a A) (e : ext T c n σ ω σ1 ω1) (h0 : ¬ T t) (h00 : ¬ T 0) : GRd κ σ1 ω1 t a A := by
  obtain ⟨f, h1, h2⟩ := h
  refine ⟨f, oc_mv h1 e h0, fun k hk => ?_⟩
  have := h2 k hk
  cases hd : aRd A k with
  | none => rw [hd] at this; exact this
  | some q => rw [hd] at this; obtain ⟨b, b1, b2⟩ := this; exact ⟨b, b1, oc_mv b2 e h00⟩
theorem GPg_mv {κ : gK} {B : Nat → Nat} {T : Nat → Prop} {c n : Nat} {σ σ1 : gS} {ω ω1 : Nat → Nat} {t a : Nat} {A : aG} (h : GPg κ B σ ω t a A) (e : ext T c n σ ω σ1 ω1) (h0 : ¬ T (t + 1)) (h00 : ¬ T 0) : GPg κ B σ1 ω1 t a A := by
  obtain ⟨L, h1, h2⟩ := h
  refine ⟨L, LM_mv h1 e h0 h00, fun b hb => ?_⟩
  have := h2 b hb
  by_cases c : aSt A b = 0
  · rw [if_pos c] at this ⊢; exact this
  · rw [if_neg c] at this ⊢
    obtain ⟨x, x1, x2⟩ := this
    exact ⟨x, x1, PG_mv x2 e h00⟩
theorem GSet_mv {κ : gK} {B : Nat → Nat} {T : Nat → Prop} {c n : Nat} {σ σ1 : gS} {ω ω1 : Nat → Nat} {u t s : Nat} {p : Nat → Bool} (h : GSet κ B σ ω u t s p) (e : ext T c n σ ω σ1 ω1) (hu : ¬ T u) (h0 : ¬ T t) (h00 : ¬ T 0) : GSet κ B σ1 ω1 u t s p := by
  obtain ⟨m, L, h1, h2, h3⟩ := h; exact ⟨m, L, oc_mv h1 e hu, LM_mv h2 e h0 h00, h3⟩
theorem GDr_mv {κ : gK} {B : Nat → Nat} {T : Nat → Prop} {c n : Nat} {σ σ1 : gS} {ω ω1 : Nat → Nat} {t : Nat} {dr : Option Nat} {A : aG} (h : GDr κ B σ ω t dr A) (e : ext T c n σ ω σ1 ω1) (h0 : ¬ T (t + 10)) (h2 : ¬ T (t + 2)) (h3 : ¬ T (t + 3)) (h11 : ¬ T (t + 11)) (h00 : ¬ T 0) : GDr κ B σ1 ω1 t dr A := by
  unfold GDr at h ⊢
  cases hd : aDr A with
  | none => rw [hd] at h; exact h
  | some d =>
    rw [hd] at h
    obtain ⟨da, fs, ls, a1, a2, a3, a4⟩ := h
    exact ⟨da, fs, ls, a1, oc_mv a2 e h0, GSet_mv a3 e h11 h2 h00, GSet_mv a4 e h11 h3 h00⟩
theorem GR_mv {κ : gK} {B : Nat → Nat} {bd : Nat} {T : Nat → Prop} {c n : Nat} {σ σ1 : gS} {ω ω1 : Nat → Nat} {t g : Nat} {ca : gA} {A : aG} (h : GR κ B bd σ ω t g ca A) (e : ext T c n σ ω σ1 ω1) (hT : ∀ x, gU t x → ¬ T x) (h0 : ¬ T 0) : GR κ B bd σ1 ω1 t g ca A := by
  obtain ⟨a1, a2, a3, a4, a5, a6, a7, a8⟩ := h
  have tk : ∀ k, k ≤ 11 → ¬ T (t + k) := fun k hk => hT (t + k) ⟨by omega, by omega⟩
  exact ⟨oc_mv a1 e (tk 0 (by omega)), GSt_mv a2 e (tk 4 (by omega)), GFw_mv a3 e (tk 5 (by omega)), GRt_mv a4 e (tk 6 (by omega)) (tk 7 (by omega)) (tk 8 (by omega)), GRd_mv a5 e (tk 9 (by omega)) h0, GPg_mv a6 e (tk 1 (by omega)) h0, GDr_mv a7 e (tk 10 (by omega)) (tk 2 (by omega)) (tk 3 (by omega)) (tk 11 (by omega)) h0, a8⟩
section C
variable {κ : gK} {B : Nat → Nat} {bd : Nat} {F : Nat} {σ : gS} {ω : Nat → Nat} {t g : Nat} {c : gA} {A : aG}
theorem k_f0 (h : GR κ B bd σ ω t g c A) : gfR σ (some g) 7 0 = some (some (c_pg c)) := by rw [gfR_u, h.1.1]; rfl
theorem k_f1 (h : GR κ B bd σ ω t g c A) : gfR σ (some g) 7 1 = some (some (c_st c)) := by rw [gfR_u, h.1.1]; rfl
theorem k_f2 (h : GR κ B bd σ ω t g c A) : gfR σ (some g) 7 2 = some (some bd) := by rw [gfR_u, h.1.1]; rfl
theorem k_f3 (h : GR κ B bd σ ω t g c A) : gfR σ (some g) 7 3 = some (some (c_fw c)) := by rw [gfR_u, h.1.1]; rfl
theorem k_f4 (h : GR κ B bd σ ω t g c A) : gfR σ (some g) 7 4 = some (some (c_rt c)) := by rw [gfR_u, h.1.1]; rfl
theorem k_f5 (h : GR κ B bd σ ω t g c A) : gfR σ (some g) 7 5 = some (some (c_rd c)) := by rw [gfR_u, h.1.1]; rfl
theorem k_f6 (h : GR κ B bd σ ω t g c A) : gfR σ (some g) 7 6 = some (c_dr c) := by rw [gfR_u, h.1.1]; exact gvR_rf _
theorem k_f7 (h : GR κ B bd σ ω t g c A) : gfI σ (some g) 7 7 = some (aCm A) := by rw [gfI_u, h.1.1]; rfl
theorem k_f8 (h : GR κ B bd σ ω t g c A) : gfI σ (some g) 7 8 = some (aLs A) := by rw [gfI_u, h.1.1]; rfl
theorem k_ck (h : GR κ B bd σ ω t g c A) : gck σ (some g) 7 = some () := by rw [gck_u, h.1.1]; rfl
theorem k_st (h : GR κ B bd σ ω t g c A) {b : Nat} (hb : b < 32) : gaR σ (some (c_st c)) (Int32.ofNat b) = some (κ.2 (aSt A b)) := by
  obtain ⟨f, h1, h2⟩ := h.2.1
  rw [gaR_u, h1.1, ← h2 b hb]
  exact gar9_s (by omega) hb (by omega)
theorem k_fw (h : GR κ B bd σ ω t g c A) {b : Nat} (hb : b < 32) : gaI σ (some (c_fw c)) 0 (Int32.ofNat b) = some (aFw A b) := by
  obtain ⟨f, h1, h2⟩ := h.2.2.1
  rw [gaI_u, h1.1, ← h2 b hb]
  exact gai9_s hb (by omega)
theorem k_bd (hB : BD κ B bd σ ω) {b : Nat} (hb : b < 32) : gaR σ (some bd) (Int32.ofNat b) = some (some (B b)) := by
  obtain ⟨f, h1, h2⟩ := hB.2
  rw [gaR_u, h1.1, ← h2 b hb]
  exact gar9_s (by omega) hb (by omega)
theorem k_bdc (hB : BD κ B bd σ ω) {b : Nat} (hb : b < 32) : σ.1 (B b) = some (.inr (1, [.int (Int32.ofNat b)])) := (hB.1 b hb).1
theorem k_rt (h : GR κ B bd σ ω t g c A) {r : Nat} (hr : r < 2) : gaR σ (some (c_rt c)) (Int32.ofNat r) = some (some (if r = 0 then c_r0 c else c_r1 c)) := by
  obtain ⟨f, h1, h2, h3, h4⟩ := h.2.2.2.1
  rw [gaR_u, h1.1]
  match r, hr with
  | 0, _ => rw [if_pos rfl, ← h2]; exact gar9_s (by omega) (by omega) (by omega)
  | 1, _ => rw [if_neg (by decide), ← h3]; exact gar9_s (by omega) (by omega) (by omega)
theorem k_rc (h : GR κ B bd σ ω t g c A) {r : Nat} (hr : r < 2) : oc κ σ ω (t + 7 + r) (if r = 0 then c_r0 c else c_r1 c) (rCell (aRt A r)) := by
  obtain ⟨f, h1, h2, h3, h4, h5⟩ := h.2.2.2.1
  match r, hr with
  | 0, _ => rw [if_pos rfl]; exact h4
  | 1, _ => rw [if_neg (by decide)]; exact h5
theorem k_rcI {a : Nat} {x : aRo} (h : oc κ σ ω t a (rCell x)) : gfI σ (some a) 4 0 = some x.1 ∧ gfI σ (some a) 4 1 = some (vDir x.2.1) ∧ gfI σ (some a) 4 2 = some (if x.2.2 then 1 else 0) := by
  rw [gfI_u, gfI_u, gfI_u, h.1]
  exact ⟨rfl, rfl, rfl⟩
theorem k_current (h : GR κ B bd σ ω t g c A) : f_X3_current κ F (some g) σ = some (Int32.ofNat (cur A), σ) := by
  have r0 := k_rcI (k_rc h (r := 0) (by omega))
  have r1 := k_rcI (k_rc h (r := 1) (by omega))
  have g0 : gaR σ (some (c_rt c)) (0 : Int32) = some (some (c_r0 c)) := k_rt h (r := 0) (by omega)
  have g1 : gaR σ (some (c_rt c)) (1 : Int32) = some (some (c_r1 c)) := k_rt h (r := 1) (by omega)
  rw [if_pos rfl] at r0
  rw [if_neg (by decide)] at r1
  rw [f_X3_current, f_X3_current_0]
  simp only [k_f4 h, gB1_s, g0, g1, r0.1, r0.2.2, r1.1, r1.2.2, f_X3_current_45, f_X3_current_49, f_X3_current_50, f_X3_current_60]
  unfold cur
  cases h1 : (aRt A 1).2.2 with
  | false => simp [h1]
  | true =>
    cases h0 : (aRt A 0).2.2 with
    | false => simp [h1, h0]
    | true =>
      by_cases hc : (aRt A 1).1 ≤ (aRt A 0).1
      · have : ¬ (aRt A 0).1 < (aRt A 1).1 := Int32.not_lt.mpr hc
        simp [h1, h0, hc, this]
      · have : (aRt A 0).1 < (aRt A 1).1 := Int32.not_le.mp hc
        simp [h1, h0, hc, this]
theorem k_now (h : GR κ B bd σ ω t g c A) : f_X3_now κ F (some g) σ = some (some (if cur A = 0 then c_r0 c else c_r1 c), σ) := by
  rw [f_X3_now, f_X3_now_0, k_f4 h, gB1_s, k_ck h, gB1_s, k_current h, gB2_s, k_rt h (cur2 A), gB1_s]
theorem k_nowI (h : GR κ B bd σ ω t g c A) : gfI σ (some (if cur A = 0 then c_r0 c else c_r1 c)) 4 0 = some (nowC A) := (k_rcI (k_rc h (cur2 A))).1
theorem k_nowD (h : GR κ B bd σ ω t g c A) (hn : okNow A) : gfI σ (some (if cur A = 0 then c_r0 c else c_r1 c)) 4 1 = some (Int32.ofNat (nowD A)) := by
  have := (k_rcI (k_rc h (cur2 A))).2.1
  unfold okNow at hn
  rw [hn] at this
  exact this
theorem k_rd (h : GR κ B bd σ ω t g c A) {k : Nat} (hk : k < 4) : (aRd A k = none → gaR σ (some (c_rd c)) (Int32.ofNat k) = some none) ∧ (∀ q, aRd A k = some q → ∃ a, gaR σ (some (c_rd c)) (Int32.ofNat k) = some (some a) ∧ oc κ σ ω 0 a (.inr (5, [.int q.1, .int (Int32.ofNat q.2)]))) := by
  obtain ⟨f, h1, h2⟩ := h.2.2.2.2.1
  have h3 := h2 k hk
  have e : gaR σ (some (c_rd c)) (Int32.ofNat k) = some (f k) := by rw [gaR_u, h1.1]; exact gar9_s (by omega) hk (by omega)
  constructor
  · intro hn
    rw [hn] at h3
    rw [e, h3]
  · intro q hq
    rw [hq] at h3
    obtain ⟨a, a1, a2⟩ := h3
    exact ⟨a, by rw [e, a1], a2⟩
/-! needed, digging -/
theorem mn_eq (a b : Int32) : (if b < a then b else a) = mn a b := rfl
theorem k_need63 (h : GR κ B bd σ ω t g c A) {w : Int32} : ∀ (d fuel k : Nat) (l : Int32), k + d = 4 → d < fuel → f_X3_neededWithout_63 κ F fuel (some g) w l (Int32.ofNat k) σ = some ((List.range' k d).foldl (fun l k => stR A w k l) l, σ)
  | 0, fuel, k, l, hk, hf => by
    obtain ⟨f, rfl⟩ : ∃ f, fuel = f + 1 := ⟨fuel - 1, by omega⟩
    have hk : k = 4 := by omega
    subst hk
    rw [f_X3_neededWithout_63, f_X3_neededWithout_63b, if_pos (by decide)]
    rfl
  | d + 1, fuel, k, l, hk, hf => by
    obtain ⟨f, rfl⟩ : ∃ f, fuel = f + 1 := ⟨fuel - 1, by omega⟩
    have c4 : ¬ ((4 : Int32) ≤ Int32.ofNat k) := by rw [L4, i3_le (by omega) (by omega)]; omega
    have ih := k_need63 h (w := w) d f (k + 1) (stR A w k l) (by omega) (by omega)
    obtain ⟨r1, r2⟩ := k_rd h (k := k) (by omega)
    rw [List.range'_succ, List.foldl_cons, ← ih, f_X3_neededWithout_63, f_X3_neededWithout_63b, if_neg c4]
    unfold stR
    by_cases e : Int32.ofNat k = w
    · rw [if_pos e, f_X3_neededWithout_86, f_X3_neededWithout_87, if_pos rfl, f_X3_neededWithout_111, i3_s]
      cases hd : aRd A k with
      | none => rfl
      | some q => simp only; rw [if_pos e]
    · rw [if_neg e, k_f5 h, gB1_s]
      cases hd : aRd A k with
      | none => rw [r1 hd, gB1_s, if_pos rfl, f_X3_neededWithout_86, f_X3_neededWithout_87, if_pos rfl, f_X3_neededWithout_111, i3_s]
      | some q =>
        obtain ⟨a, a1, a2⟩ := r2 q hd
        have hf5 : gfI σ (some a) 5 0 = some q.1 := by rw [gfI_u, a2.1]; rfl
        rw [a1, gB1_s, if_neg (by simp), f_X3_neededWithout_87, if_neg (by decide), k_f5 h, gB1_s, a1, gB1_s, hf5, gB1_s, f_X3_neededWithout_111, i3_s]
        simp only
        rw [if_neg e]
        rfl
theorem k_need20 (h : GR κ B bd σ ω t g c A) {w : Int32} : ∀ (d fuel r : Nat) (l : Int32), r + d = 2 → d < fuel → f_X3_neededWithout_20 κ F fuel (some g) w l (some (c_rt c)) (2 : Int32) (Int32.ofNat r) σ = f_X3_neededWithout_63 κ F F (some g) w ((List.range' r d).foldl (fun l r => stW A r l) l) (0 : Int32) σ
  | 0, fuel, r, l, hk, hf => by
    obtain ⟨f, rfl⟩ : ∃ f, fuel = f + 1 := ⟨fuel - 1, by omega⟩
    have hk : r = 2 := by omega
    subst hk
    rw [f_X3_neededWithout_20, f_X3_neededWithout_20b, if_pos (by decide)]
    rfl
  | d + 1, fuel, r, l, hk, hf => by
    obtain ⟨f, rfl⟩ : ∃ f, fuel = f + 1 := ⟨fuel - 1, by omega⟩
    have c4 : ¬ ((2 : Int32) ≤ Int32.ofNat r) := by rw [L2, i3_le (by omega) (by omega)]; omega
    have ih := k_need20 h (w := w) d f (r + 1) (stW A r l) (by omega) (by omega)
    have rc := k_rcI (k_rc h (r := r) (by omega))
    rw [List.range'_succ, List.foldl_cons, ← ih, f_X3_neededWithout_20, f_X3_neededWithout_20b, if_neg c4, k_rt h (by omega), gB1_s, rc.2.2, gB1_s]
    unfold stW
    by_cases e : (aRt A r).2.2 = true
    · rw [if_pos e, if_pos e, if_neg (by decide), rc.1, gB1_s, f_X3_neededWithout_54, i3_s]
      rfl
    · rw [if_neg e, if_neg e, if_pos rfl, f_X3_neededWithout_54, i3_s]
theorem k_neededWithout (h : GR κ B bd σ ω t g c A) (hF : 8 ≤ F) (w : Int32) : f_X3_neededWithout κ F (some g) w σ = some (need A w, σ) := by
  obtain ⟨f, h1, h2, h3, h4, h5⟩ := h.2.2.2.1
  have hl : gal σ (some (c_rt c)) = some (2 : Int32) := by rw [gal_u, h1.1]; exact gal9_s _ _ _ (by omega)
  have e20 := k_need20 (F := F) h (w := w) 2 F 0 (nowC A) (by omega) (by omega)
  have e63 := k_need63 (F := F) h (w := w) 4 F 0 ((List.range' 0 2).foldl (fun l r => stW A r l) (nowC A)) (by omega) (by omega)
  rw [f_X3_neededWithout, f_X3_neededWithout_0, k_ck h, gB1_s, k_now h, gB2_s, k_nowI h, gB1_s, k_f4 h, gB1_s, hl, gB1_s]
  refine e20.trans ?_
  refine e63.trans ?_
  rfl
end C
