/-! THE LINKED HASH MAP: keys are beds 0..31 (B k: the bed object of the number k). An element: (entry's address, key, value). -/
abbrev mE : Type := Nat × Nat × Option Nat
/-- the beds -/
def bdK (κ : gK) (B : Nat → Nat) (σ : gS) (ω : Nat → Nat) : Prop := ∀ k, k < 32 → oc κ σ ω 0 (B k) (.inr (1, [.int (Int32.ofNat k)]))
theorem bdK_mv {κ : gK} {B : Nat → Nat} {T : Nat → Prop} {c n : Nat} {σ σ1 : gS} {ω ω1 : Nat → Nat} (h : bdK κ B σ ω) (e : ext T c n σ ω σ1 ω1) (ht : ¬ T 0) : bdK κ B σ1 ω1 := fun k hk => oc_mv (h k hk) e ht
/-- the first element of a bucket, of a row -/
def hb (n j : Nat) (L : List mE) : Option Nat := (L.find? (fun x => x.2.1 % n == j)).map (fun x => x.1)
def hd (L : List mE) : Option Nat := L.head?.map (fun x => x.1)
def lst (L : List mE) : Option Nat := L.getLast?.map (fun x => x.1)
def fnd (k : Nat) (L : List mE) : Option mE := L.find? (fun x => x.2.1 == k)
def enX (B : Nat → Nat) (nx pre : Option Nat) (x : mE) (L : List mE) : gC := .inr (11, [.int (Int32.ofNat x.2.1), va_rf (some (B x.2.1)), va_rf x.2.2, va_rf nx, va_rf pre, va_rf (hd L)])
abbrev enC (B : Nat → Nat) (n : Nat) (pre : Option Nat) (x : mE) (L : List mE) : gC := enX B (hb n (x.2.1 % n) L) pre x L
/-- the entries of a row, each with its successor in its bucket by nx -/
def EnX (κ : gK) (B : Nat → Nat) (σ : gS) (ω : Nat → Nat) (t : Nat) (nx : mE → List mE → Option Nat) : Option Nat → List mE → Prop
  | _, [] => True
  | pre, x :: L => oc κ σ ω t x.1 (enX B (nx x L) pre x L) ∧ x.2.1 < 32 ∧ EnX κ B σ ω t nx (some x.1) L
abbrev nxn (n : Nat) : mE → List mE → Option Nat := fun x L => hb n (x.2.1 % n) L
abbrev Ents (κ : gK) (B : Nat → Nat) (σ : gS) (ω : Nat → Nat) (t n : Nat) : Option Nat → List mE → Prop := EnX κ B σ ω t (nxn n)
def prv (pre : Option Nat) (A : List mE) : Option Nat := match A.getLast? with
  | none => pre
  | some y => some y.1
theorem prv_cons (pre : Option Nat) (y : mE) (A : List mE) : prv pre (y :: A) = prv (some y.1) A := by
  unfold prv
  rw [List.getLast?_cons]
  cases A.getLast? <;> rfl
theorem EnX_iff {κ : gK} {B : Nat → Nat} {σ : gS} {ω : Nat → Nat} {t : Nat} {nx : mE → List mE → Option Nat} : ∀ (L : List mE) (pre : Option Nat), EnX κ B σ ω t nx pre L ↔ ∀ A x C, L = A ++ x :: C → oc κ σ ω t x.1 (enX B (nx x C) (prv pre A) x C) ∧ x.2.1 < 32
  | [], pre => ⟨fun _ A x C h => by simp at h, fun _ => trivial⟩
  | y :: L, pre => by
    constructor
    · rintro ⟨h1, h2, h3⟩ A x C h
      cases A with
      | nil =>
        simp only [List.nil_append, List.cons.injEq] at h
        obtain ⟨rfl, rfl⟩ := h
        exact ⟨h1, h2⟩
      | cons z A =>
        simp only [List.cons_append, List.cons.injEq] at h
        obtain ⟨rfl, h⟩ := h
        rw [prv_cons]
        exact (EnX_iff L (some y.1)).mp h3 A x C h
    · intro h
      refine ⟨(h [] y L rfl).1, (h [] y L rfl).2, (EnX_iff L (some y.1)).mpr fun A x C hL => ?_⟩
      have := h (y :: A) x C (by rw [hL]; rfl)
      rw [prv_cons] at this
      exact this
theorem hb_cons (n j : Nat) (x : mE) (L : List mE) : hb n j (x :: L) = if x.2.1 % n = j then some x.1 else hb n j L := by
  unfold hb
  rw [List.find?_cons]
  by_cases h : x.2.1 % n = j
  · simp [h]
  · have : (x.2.1 % n == j) = false := by simp [h]
    rw [this, if_neg h]
theorem fnd_cons (k : Nat) (x : mE) (L : List mE) : fnd k (x :: L) = if x.2.1 = k then some x else fnd k L := by
  unfold fnd
  rw [List.find?_cons]
  by_cases h : x.2.1 = k
  · simp [h]
  · have : (x.2.1 == k) = false := by simp [h]
    rw [this, if_neg h]
theorem fnd_none_of_hb {n j k : Nat} {L : List mE} (hj : k % n = j) (h : hb n j L = none) : fnd k L = none := by
  induction L with
  | nil => rfl
  | cons x L ih =>
    rw [hb_cons] at h
    split at h
    · cases h
    · rename_i hx
      rw [fnd_cons, if_neg (fun e => hx (by rw [e]; exact hj))]
      exact ih h
theorem Ents_mv {κ : gK} {B : Nat → Nat} {T : Nat → Prop} {c m : Nat} {σ σ1 : gS} {ω ω1 : Nat → Nat} {t : Nat} {nx : mE → List mE → Option Nat} (e : ext T c m σ ω σ1 ω1) (ht : ¬ T t) : ∀ (L : List mE) (pre : Option Nat), EnX κ B σ ω t nx pre L → EnX κ B σ1 ω1 t nx pre L
  | [], _, _ => trivial
  | x :: L, _, h => ⟨oc_mv h.1 e ht, h.2.1, Ents_mv e ht L _ h.2.2⟩
/-- the whole map: its object m, its table -/
def mpC (tb ks : Option Nat) (z md th : Int32) (h l : Option Nat) : gC := .inr (10, [va_rf tb, .null, .int z, .int md, .int th, .float 1061158912, va_rf ks, .null, va_rf h, va_rf l, .int 0, .int 0])
def mpT (κ : gK) (σ : gS) (ω : Nat → Nat) (t : Nat) (tb : Option Nat) (n : Nat) (L : List mE) : Prop := match tb with
  | none => L = []
  | some a => oc κ σ ω t a (.inl (7, n, .inr (.inr (.inr (.inr (fun j => hb n j L))))))
def mpK (κ : gK) (σ : gS) (ω : Nat → Nat) (m : Nat) (ks : Option Nat) : Prop := match ks with
  | none => True
  | some a => σ.1 a = some (.inr (15, [.int 0, va_rf (some m)])) ∧ a < σ.2.1 ∧ ω a = 0 ∧ κ.1 ≤ a
def LM (κ : gK) (B : Nat → Nat) (σ : gS) (ω : Nat → Nat) (t m : Nat) (L : List mE) : Prop :=
  ∃ (tb ks : Option Nat) (md th : Int32) (n : Nat), oc κ σ ω t m (mpC tb ks (Int32.ofNat L.length) md th (hd L) (lst L)) ∧ mpT κ σ ω t tb n L ∧ mpK κ σ ω m ks ∧ Ents κ B σ ω t n none L ∧ (L.map (fun x => x.2.1)).Nodup ∧
    (n = 16 ∨ n = 32 ∨ n = 64) ∧ (tb ≠ none → th = Int32.ofNat (n * 3 / 4) ∧ L.length ≤ n * 3 / 4) ∧ (tb = none → th = 0 ∨ th = 16)
