/-! THE PLAIN LAW, words over the pure heap: no machine from here on but the names of the pure functions. -/
/-- a field of a cell, an entry of an array -/
def gcf (c : Option gC) (ci k : Nat) : Option Value := match c with
  | some (.inr o) => if o.1 = ci then o.2[k]? else none
  | _ => none
def gvR (v : Option Value) : Option (Option Nat) := match v with
  | some (.ref x) => some (some x)
  | some .null => some none
  | _ => none
def gvI (v : Option Value) : Option Int32 := match v with
  | some (.int x) => some x
  | _ => none
def gvJ (v : Option Value) : Option Int64 := match v with
  | some (.long x) => some x
  | _ => none
def gvF (v : Option Value) : Option UInt32 := match v with
  | some (.float x) => some x
  | _ => none
theorem gcf_s (ci k : Nat) (fs : List Value) : gcf (some (.inr (ci, fs))) ci k = fs[k]? := by simp [gcf]
theorem gvR_rf (v : Option Nat) : gvR (some (va_rf v)) = some v := by cases v <;> rfl
theorem gvR_ref (v : Nat) : gvR (some (.ref v)) = some (some v) := rfl
theorem gvR_null : gvR (some .null) = some none := rfl
theorem gvI_int (v : Int32) : gvI (some (.int v)) = some v := rfl
theorem gvJ_long (v : Int64) : gvJ (some (.long v)) = some v := rfl
theorem gvF_float (v : UInt32) : gvF (some (.float v)) = some v := rfl
theorem gfv_u (σ : gS) (a ci k : Nat) : gfv σ (some a) ci k = gcf (σ.1 a) ci k := rfl
theorem gfR_u (σ : gS) (a ci k : Nat) : gfR σ (some a) ci k = gvR (gcf (σ.1 a) ci k) := rfl
theorem gfI_u (σ : gS) (a ci k : Nat) : gfI σ (some a) ci k = gvI (gcf (σ.1 a) ci k) := rfl
theorem gfJ_u (σ : gS) (a ci k : Nat) : gfJ σ (some a) ci k = gvJ (gcf (σ.1 a) ci k) := rfl
theorem gfF_u (σ : gS) (a ci k : Nat) : gfF σ (some a) ci k = gvF (gcf (σ.1 a) ci k) := rfl
theorem gB1_s {α β : Type} (a : α) (f : α → Option β) : gB1 (some a) f = f a := rfl
theorem gB2_s {α β : Type} (a : α) (s : gS) (f : α → gS → Option β) : gB2 (some (a, s)) f = f a s := rfl
theorem gB3_l {α β : Type} (a : α) (s : gS) (f : α → gS → Option ((β ⊕ String) × gS)) : gB3 (some (.inl a, s)) f = f a s := rfl
theorem gB3_r {α β : Type} (C : String) (s : gS) (f : α → gS → Option ((β ⊕ String) × gS)) : gB3 (some (.inr C, s)) f = some (.inr C, s) := rfl
theorem gBy_l {α β : Type} (a : α) (s : gS) (g : String → gS → Option β) (f : α → gS → Option β) : gBy (some (.inl a, s)) g f = f a s := rfl
theorem gBy_r {α β : Type} (C : String) (s : gS) (g : String → gS → Option β) (f : α → gS → Option β) : gBy (some (.inr C, s)) g f = g C s := rfl
/-- what a cell is -/
def gcc9 (c : Option gC) (ci : Nat) : Option Unit := match c with
  | some (.inr o) => if o.1 = ci then some () else none
  | _ => none
theorem gcc9_s (ci : Nat) (fs : List Value) : gcc9 (some (.inr (ci, fs))) ci = some () := by simp [gcc9]
theorem gck_u (σ : gS) (a ci : Nat) : gck σ (some a) ci = gcc9 (σ.1 a) ci := rfl
theorem gcc_u (σ : gS) (a ci : Nat) : gcc σ (some a) ci = gcc9 (σ.1 a) ci := rfl
theorem gcc_n (σ : gS) (ci : Nat) : gcc σ none ci = some () := rfl
theorem gsm_s (a : Nat) : gsm (some a) = some () := rfl
def gio9 (c : Option gC) (ys ns : List Nat) : Option Int32 := match c with
  | some (.inr o) => if o.1 ∈ ys then some 1 else if o.1 ∈ ns then some 0 else none
  | _ => none
theorem gio_u (σ : gS) (a : Nat) (ys ns : List Nat) : gio σ (some a) ys ns = gio9 (σ.1 a) ys ns := rfl
theorem gio_n (σ : gS) (ys ns : List Nat) : gio σ none ys ns = some 0 := rfl
theorem gio9_s (ci : Nat) (fs : List Value) (ys ns : List Nat) : gio9 (some (.inr (ci, fs))) ys ns = if ci ∈ ys then some 1 else if ci ∈ ns then some 0 else none := rfl
/-- arrays -/
def gal9 (c : Option gC) : Option Int32 := match c with
  | some (.inl q) => if q.1 < 9 then some (Int32.ofNat q.2.1) else none
  | _ => none
theorem gal_u (σ : gS) (a : Nat) : gal σ (some a) = gal9 (σ.1 a) := rfl
theorem gal9_s (t n : Nat) (f : (Nat → Int32) ⊕ ((Nat → Int64) ⊕ ((Nat → UInt32) ⊕ ((Nat → UInt64) ⊕ (Nat → Option Nat))))) (ht : t < 9) : gal9 (some (.inl (t, n, f))) = some (Int32.ofNat n) := by simp [gal9, ht]
def gai9 (c : Option gC) (t : Nat) (i : Int32) : Option Int32 := match c with
  | some (.inl (t', n, .inl f)) => if t' = t ∧ ¬ (i < 0 ∨ n ≤ i.toNatClampNeg) then some (f i.toNatClampNeg) else none
  | _ => none
theorem gaI_u (σ : gS) (a t : Nat) (i : Int32) : gaI σ (some a) t i = gai9 (σ.1 a) t i := rfl
def gar9 (c : Option gC) (i : Int32) : Option (Option Nat) := match c with
  | some (.inl (t', n, .inr (.inr (.inr (.inr f))))) => if (2 < t' ∧ t' < 9) ∧ ¬ (i < 0 ∨ n ≤ i.toNatClampNeg) then some (f i.toNatClampNeg) else none
  | _ => none
theorem gaR_u (σ : gS) (a : Nat) (i : Int32) : gaR σ (some a) i = gar9 (σ.1 a) i := rfl
theorem i3_ok {k : Nat} (h : k < 2147483648) : ¬ (Int32.ofNat k < 0) ∧ (Int32.ofNat k).toNatClampNeg = k := by
  have h1 : (Int32.ofNat k).toInt = k := Int32.toInt_ofNat_small h
  constructor
  · intro h2
    have := Int32.lt_iff_toInt_lt.mp h2
    rw [h1] at this
    have h0 : (0 : Int32).toInt = 0 := by decide
    omega
  · simp only [Int32.toNatClampNeg, h1]
    omega
theorem gai9_s {t n k : Nat} {f : Nat → Int32} (h : k < n) (hn : n < 2147483648) : gai9 (some (.inl (t, n, .inl f))) t (Int32.ofNat k) = some (f k) := by
  have h1 := i3_ok (k := k) (by omega)
  simp only [gai9, h1.2]
  rw [if_pos ⟨trivial, fun h2 => by rcases h2 with h2 | h2; exact h1.1 h2; omega⟩]
theorem gar9_s {t n k : Nat} {f : Nat → Option Nat} (ht : 2 < t ∧ t < 9) (h : k < n) (hn : n < 2147483648) : gar9 (some (.inl (t, n, .inr (.inr (.inr (.inr f)))))) (Int32.ofNat k) = some (f k) := by
  have h1 := i3_ok (k := k) (by omega)
  simp only [gar9, h1.2]
  rw [if_pos ⟨ht, fun h2 => by rcases h2 with h2 | h2; exact h1.1 h2; omega⟩]
theorem i3_inj {a b : Nat} (ha : a < 2147483648) (hb : b < 2147483648) : Int32.ofNat a = Int32.ofNat b ↔ a = b := by
  constructor
  · intro h
    have := congrArg Int32.toNatClampNeg h
    rw [(i3_ok ha).2, (i3_ok hb).2] at this
    exact this
  · intro h; rw [h]
theorem i3_le {a b : Nat} (ha : a < 2147483648) (hb : b < 2147483648) : Int32.ofNat a ≤ Int32.ofNat b ↔ a ≤ b := by
  rw [Int32.le_iff_toInt_le, Int32.toInt_ofNat_small ha, Int32.toInt_ofNat_small hb]
  omega
theorem i3_lt {a b : Nat} (ha : a < 2147483648) (hb : b < 2147483648) : Int32.ofNat a < Int32.ofNat b ↔ a < b := by
  rw [Int32.lt_iff_toInt_lt, Int32.toInt_ofNat_small ha, Int32.toInt_ofNat_small hb]
  omega
theorem i3_add (a b : Nat) : Int32.ofNat a + Int32.ofNat b = Int32.ofNat (a + b) := (Int32.ofNat_add a b).symm
theorem i3_mul (a b : Nat) : Int32.ofNat a * Int32.ofNat b = Int32.ofNat (a * b) := (Int32.ofNat_mul a b).symm
theorem i3_sub {a b : Nat} (h : b ≤ a) : Int32.ofNat a - Int32.ofNat b = Int32.ofNat (a - b) := by
  have h1 : Int32.ofNat a = Int32.ofNat (a - b) + Int32.ofNat b := by rw [i3_add, Nat.sub_add_cancel h]
  rw [h1, Int32.add_sub_cancel]
/-- a cell of ours: made since the start, of the owner t -/
def oc (κ : gK) (σ : gS) (ω : Nat → Nat) (t a : Nat) (c : gC) : Prop := σ.1 a = some c ∧ a < σ.2.1 ∧ ω a = t ∧ κ.1 ≤ a
/-- from one heap to a later one: at most c cells and n slots more; what no owner of T owns stays -/
def ext (T : Nat → Prop) (c n : Nat) (σ : gS) (ω : Nat → Nat) (σ' : gS) (ω' : Nat → Nat) : Prop :=
  σ.2.1 ≤ σ'.2.1 ∧ σ'.2.1 ≤ σ.2.1 + c ∧ σ.2.2 ≤ σ'.2.2 ∧ σ'.2.2 ≤ σ.2.2 + n ∧ (∀ a, a < σ.2.1 → ω' a = ω a) ∧ (∀ a, a < σ.2.1 → ¬ T (ω a) → σ'.1 a = σ.1 a)
theorem ext_refl (T : Nat → Prop) (σ : gS) (ω : Nat → Nat) : ext T 0 0 σ ω σ ω := ⟨Nat.le_refl _, Nat.le_refl _, Nat.le_refl _, Nat.le_refl _, fun _ _ => rfl, fun _ _ _ => rfl⟩
theorem ext_trans {T : Nat → Prop} {c n c' n' : Nat} {σ σ1 σ2 : gS} {ω ω1 ω2 : Nat → Nat} (h : ext T c n σ ω σ1 ω1) (h' : ext T c' n' σ1 ω1 σ2 ω2) : ext T (c + c') (n + n') σ ω σ2 ω2 := by
  obtain ⟨a1, a2, a3, a4, a5, a6⟩ := h
  obtain ⟨b1, b2, b3, b4, b5, b6⟩ := h'
  refine ⟨by omega, by omega, by omega, by omega, fun a ha => (b5 a (by omega)).trans (a5 a ha), fun a ha ht => (b6 a (by omega) (by rw [a5 a ha]; exact ht)).trans (a6 a ha ht)⟩
theorem ext_mono {T T' : Nat → Prop} {c n c' n' : Nat} {σ σ1 : gS} {ω ω1 : Nat → Nat} (h : ext T c n σ ω σ1 ω1) (hT : ∀ t, T t → T' t) (hc : c ≤ c') (hn : n ≤ n') : ext T' c' n' σ ω σ1 ω1 := by
  obtain ⟨a1, a2, a3, a4, a5, a6⟩ := h
  exact ⟨a1, by omega, a3, by omega, a5, fun a ha ht => a6 a ha (fun h => ht (hT _ h))⟩
theorem oc_mv {κ : gK} {T : Nat → Prop} {c n : Nat} {σ σ1 : gS} {ω ω1 : Nat → Nat} {t a : Nat} {d : gC} (h : oc κ σ ω t a d) (e : ext T c n σ ω σ1 ω1) (ht : ¬ T t) : oc κ σ1 ω1 t a d := by
  obtain ⟨h1, h2, h3, h4⟩ := h
  obtain ⟨a1, a2, a3, a4, a5, a6⟩ := e
  exact ⟨(a6 a h2 (by rw [h3]; exact ht)).trans h1, by omega, (a5 a h2).trans h3, h4⟩
theorem oc_cls {κ : gK} {σ : gS} {ω : Nat → Nat} {t t' a : Nat} {d d' : gC} (h : oc κ σ ω t a d) (h' : oc κ σ ω t' a d') : d = d' := Option.some.inj (h.1.symm.trans h'.1)
theorem oc_up {κ : gK} {σ : gS} {ω : Nat → Nat} {t a : Nat} {d : gC} (h : oc κ σ ω t a d) (d' : gC) : oc κ (gup σ a d') ω t a d' := ⟨by simp [gup], h.2.1, h.2.2.1, h.2.2.2⟩
theorem oc_up_ne {κ : gK} {σ : gS} {ω : Nat → Nat} {t a b : Nat} {d : gC} (h : oc κ σ ω t b d) (hne : b ≠ a) (d' : gC) : oc κ (gup σ a d') ω t b d := ⟨by simp [gup, hne]; exact h.1, h.2.1, h.2.2.1, h.2.2.2⟩
theorem oc_ext_up {κ : gK} {σ : gS} {ω : Nat → Nat} {t a : Nat} {d : gC} (h : oc κ σ ω t a d) (d' : gC) (T : Nat → Prop) (ht : T t) : ext T 0 0 σ ω (gup σ a d') ω := by
  refine ⟨Nat.le_refl _, Nat.le_refl _, Nat.le_refl _, Nat.le_refl _, fun _ _ => rfl, fun b hb hT => ?_⟩
  have hne : b ≠ a := fun e => hT (by rw [e, h.2.2.1]; exact ht)
  simp [gup, hne]
/-- the owner of what is made from n on -/
def own (ω : Nat → Nat) (n t : Nat) : Nat → Nat := fun b => if b < n then ω b else t
theorem own_old {ω : Nat → Nat} {n t a : Nat} (h : a < n) : own ω n t a = ω a := by simp [own, h]
theorem own_new {ω : Nat → Nat} {n t a : Nat} (h : n ≤ a) : own ω n t a = t := by simp [own, Nat.not_lt.mpr h]
theorem ext_own (T : Nat → Prop) (σ : gS) (ω : Nat → Nat) (t : Nat) : ext T 0 0 σ ω σ (own ω σ.2.1 t) := ⟨Nat.le_refl _, Nat.le_refl _, Nat.le_refl _, Nat.le_refl _, fun _ h => own_old h, fun _ _ _ => rfl⟩
theorem ext_push (T : Nat → Prop) (σ : gS) (ω : Nat → Nat) (c : gC) (n : Nat) : ext T 1 n σ ω (gpush σ c n) ω := by
  refine ⟨Nat.le_succ _, Nat.le_refl _, Nat.le_add_right _ _, Nat.le_refl _, fun _ _ => rfl, fun b hb _ => ?_⟩
  have hne : b ≠ σ.2.1 := by omega
  simp [gpush, hne]
theorem oc_push {κ : gK} {σ : gS} {ω : Nat → Nat} {t : Nat} (hb : κ.1 ≤ σ.2.1) (ht : ω σ.2.1 = t) (c : gC) (n : Nat) : oc κ (gpush σ c n) ω t σ.2.1 c := ⟨by simp [gpush], by simp [gpush], ht, hb⟩
theorem oc_pu {κ : gK} {σ : gS} {ω : Nat → Nat} {t a : Nat} {d : gC} (h : oc κ σ ω t a d) (c : gC) (n : Nat) : oc κ (gpush σ c n) ω t a d := by
  have hne : a ≠ σ.2.1 := by have := h.2.1; omega
  exact ⟨by simp [gpush, hne]; exact h.1, Nat.lt_succ_of_lt h.2.1, h.2.2.1, h.2.2.2⟩
theorem oc_own {κ : gK} {σ : gS} {ω : Nat → Nat} {t a : Nat} {d : gC} (h : oc κ σ ω t a d) (t' : Nat) : oc κ σ (own ω σ.2.1 t') t a d := ⟨h.1, h.2.1, (own_old h.2.1).trans h.2.2.1, h.2.2.2⟩
/-! writing: the steps as equations, and the row of entries under a change -/
def gpf9 (κ : gK) (σ : gS) (a : Nat) (c : Option gC) (ci k : Nat) (v : Value) : Option gS := match c with
  | some (.inr o) => if o.1 = ci ∧ k < o.2.length ∧ κ.1 ≤ a then some (gup σ a (.inr (ci, o.2.set k v))) else none
  | _ => none
theorem gpf_u (κ : gK) (σ : gS) (a ci k : Nat) (v : Value) : gpf κ σ (some a) ci k v = gpf9 κ σ a (σ.1 a) ci k v := rfl
theorem gpf9_s {κ : gK} {σ : gS} {a ci k : Nat} {v : Value} {fs : List Value} (hk : k < fs.length) (ha : κ.1 ≤ a) : gpf9 κ σ a (some (.inr (ci, fs))) ci k v = some (gup σ a (.inr (ci, fs.set k v))) := by
  simp only [gpf9]
  rw [if_pos ⟨trivial, hk, ha⟩]
/-- a write of a field of a cell of ours -/
theorem oc_pf {κ : gK} {σ : gS} {ω : Nat → Nat} {t a ci : Nat} {fs : List Value} (h : oc κ σ ω t a (.inr (ci, fs))) {k : Nat} (hk : k < fs.length) (v : Value) : gpf κ σ (some a) ci k v = some (gup σ a (.inr (ci, fs.set k v))) := by
  rw [gpf_u, h.1, gpf9_s hk h.2.2.2]
/-- a write of an entry of an array of references -/
theorem oc_sR {κ : gK} {σ : gS} {ω : Nat → Nat} {o a t n k : Nat} {f : Nat → Option Nat} {v : Option Nat} (h : oc κ σ ω o a (.inl (t, n, .inr (.inr (.inr (.inr f)))))) (ht : 2 < t ∧ t < 9) (hk : k < n) (hn : n < 2147483648) (hv : gokR κ σ t v) :
    gsR κ σ (some a) (Int32.ofNat k) v = some (gup σ a (.inl (t, n, .inr (.inr (.inr (.inr (va_up f k v))))))) := by
  have h1 := i3_ok (k := k) (by omega)
  simp only [gsR, h.1, h1.2]
  rw [if_pos ⟨ht, fun h2 => by rcases h2 with h2 | h2; exact h1.1 h2; omega, h.2.2.2, hv⟩]
theorem oc_sI {κ : gK} {σ : gS} {ω : Nat → Nat} {o a n k : Nat} {f : Nat → Int32} {v : Int32} (h : oc κ σ ω o a (.inl (0, n, .inl f))) (hk : k < n) (hn : n < 2147483648) :
    gsI κ σ (some a) (Int32.ofNat k) v = some (gup σ a (.inl (0, n, .inl (va_up f k v)))) := by
  have h1 := i3_ok (k := k) (by omega)
  simp only [gsI, h.1, h1.2]
  rw [if_pos ⟨trivial, fun h2 => by rcases h2 with h2 | h2; exact h1.1 h2; omega, h.2.2.2⟩]
theorem gup_at (σ : gS) (a : Nat) (c : gC) : (gup σ a c).1 a = some c := by simp [gup]
theorem gup_ne {σ : gS} {a b : Nat} {c : gC} (h : b ≠ a) : (gup σ a c).1 b = σ.1 b := by simp [gup, h]
theorem gup_2 (σ : gS) (a : Nat) (c : gC) : (gup σ a c).2 = σ.2 := rfl
theorem gpush_at (σ : gS) (c : gC) (n : Nat) : (gpush σ c n).1 σ.2.1 = some c := by simp [gpush]
theorem gpush_ne {σ : gS} {b : Nat} {c : gC} {n : Nat} (h : b ≠ σ.2.1) : (gpush σ c n).1 b = σ.1 b := by simp [gpush, h]
theorem gpush_21 (σ : gS) (c : gC) (n : Nat) : (gpush σ c n).2.1 = σ.2.1 + 1 := rfl
theorem gpush_22 (σ : gS) (c : gC) (n : Nat) : (gpush σ c n).2.2 = σ.2.2 + n := rfl
theorem oc_ne {κ : gK} {σ : gS} {ω : Nat → Nat} {t t' a b : Nat} {c d : gC} (h : oc κ σ ω t a c) (h' : oc κ σ ω t' b d) (hne : c ≠ d) : a ≠ b := fun e => by
  subst e
  exact hne (oc_cls h h')
theorem oc_lt {κ : gK} {σ : gS} {ω : Nat → Nat} {t a : Nat} {c : gC} (h : oc κ σ ω t a c) : a < σ.2.1 := h.2.1
theorem ext_gup {T : Nat → Prop} {c n : Nat} {σ σ1 : gS} {ω ω1 : Nat → Nat} {b : Nat} {d : gC} (hT : b < σ.2.1 → T (ω b)) (h : ext T c n σ ω σ1 ω1) : ext T c n σ ω (gup σ1 b d) ω1 := by
  obtain ⟨a1, a2, a3, a4, a5, a6⟩ := h
  refine ⟨a1, a2, a3, a4, a5, fun a ha ht => ?_⟩
  rw [gup_ne (fun e => ht (by subst e; exact hT ha))]
  exact a6 a ha ht
