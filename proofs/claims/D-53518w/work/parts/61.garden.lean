/-! THE ABSTRACT GARDEN. Beds (state 0 wild, 1 used, 2 freed; page: a leaf's entries or a directory's beds; freeing count), roots (count, directory, whole), readers, draft (fresh, left, directory), commits, lost. -/
abbrev Pg : Type := List (Int32 × Int32) ⊕ List Nat
abbrev aB : Type := Nat × Pg × Int32
abbrev aRo : Type := Int32 × Option Nat × Bool
abbrev aD : Type := (Nat → Bool) × (Nat → Bool) × Nat
abbrev aG : Type := (Nat → aB) × (Nat → aRo) × (Nat → Option (Int32 × Nat)) × Option aD × Int32 × Int32
abbrev aSt (A : aG) (b : Nat) : Nat := (A.1 b).1
abbrev aPg (A : aG) (b : Nat) : Pg := (A.1 b).2.1
abbrev aFw (A : aG) (b : Nat) : Int32 := (A.1 b).2.2
abbrev aRt (A : aG) (r : Nat) : aRo := A.2.1 r
abbrev aRd (A : aG) (k : Nat) : Option (Int32 × Nat) := A.2.2.1 k
abbrev aDr (A : aG) : Option aD := A.2.2.2.1
abbrev aCm (A : aG) : Int32 := A.2.2.2.2.1
abbrev aLs (A : aG) : Int32 := A.2.2.2.2.2
def isNew (A : aG) (b : Nat) : Bool := match aDr A with
  | none => false
  | some d => d.1 b
def isLeft (A : aG) (b : Nat) : Bool := match aDr A with
  | none => false
  | some d => d.2.1 b
def cur (A : aG) : Nat := if (aRt A 1).2.2 = true ∧ ((aRt A 0).2.2 = false ∨ (aRt A 0).1 < (aRt A 1).1) then 1 else 0
def nowC (A : aG) : Int32 := (aRt A (cur A)).1
def nowD (A : aG) : Nat := (aRt A (cur A)).2.1.getD 0
def mn (a b : Int32) : Int32 := if b < a then b else a
def stW (A : aG) (r : Nat) (l : Int32) : Int32 := if (aRt A r).2.2 = true then mn l (aRt A r).1 else l
def stR (A : aG) (w : Int32) (k : Nat) (l : Int32) : Int32 := match aRd A k with
  | none => l
  | some q => if Int32.ofNat k = w then l else mn l q.1
def need (A : aG) (w : Int32) : Int32 := stR A w 3 (stR A w 2 (stR A w 1 (stR A w 0 (stW A 1 (stW A 0 (nowC A))))))
def digg (A : aG) (b : Nat) : Bool := decide (aSt A b = 2 ∧ aFw A b ≤ need A (-1))
def bst (A : aG) (f : Option Nat) (b : Nat) : Option Nat := if digg A b then (match f with
    | none => some b
    | some c => if aFw A b < aFw A c then some b else some c) else f
def best (A : aG) (n : Nat) : Option Nat := (List.range n).foldl (bst A) none
/-- the lowest wild bed of the d highest -/
def wld (A : aG) : Nat → Option Nat
  | 0 => none
  | d + 1 => if aSt A (31 - d) = 0 then some (31 - d) else wld A d
def wild (A : aG) : Option Nat := wld A 32
def next (A : aG) : Option Nat := (best A 32).or (wild A)
def cnt (f : Nat → Bool) (n : Nat) : Nat := (List.range n).countP f
/-- the reference's row P tells A -/
def MRb (P : mR) (A : aG) (b : Nat) : Prop :=
  P (14 * b) = Int32.ofNat (aSt A b) ∧ aSt A b < 3 ∧ (aSt A b = 2 → P (14 * b + 3) = aFw A b) ∧ P (14 * b + 4) = (if isNew A b then 1 else 0) ∧ P (14 * b + 5) = (if isLeft A b then 1 else 0) ∧
  (aSt A b ≠ 0 → match aPg A b with
    | .inl l => P (14 * b + 1) = 0 ∧ P (14 * b + 2) = Int32.ofNat l.length ∧ l.length ≤ 4 ∧ ∀ i, (h : i < l.length) → P (14 * b + (6 + 2 * i)) = (l[i]'h).1 ∧ P (14 * b + (6 + 2 * i + 1)) = (l[i]'h).2
    | .inr D => P (14 * b + 1) = 1 ∧ P (14 * b + 2) = Int32.ofNat D.length ∧ D.length ≤ 6 ∧ ∀ i, (h : i < D.length) → P (14 * b + (6 + i)) = Int32.ofNat (D[i]'h))
def MR (P : mR) (A : aG) : Prop :=
  (∀ b, b < 32 → MRb P A b) ∧
  (∀ r, r < 2 → P (448 + 3 * r + 0) = (aRt A r).1 ∧ P (448 + 3 * r + 1) = (match (aRt A r).2.1 with | none => -1 | some d => Int32.ofNat d) ∧ P (448 + 3 * r + 2) = (if (aRt A r).2.2 then 1 else 0)) ∧
  (∀ k, k < 4 → match aRd A k with | none => P (454 + 3 * k + 0) = 0 | some q => P (454 + 3 * k + 0) = 1 ∧ P (454 + 3 * k + 1) = q.1 ∧ P (454 + 3 * k + 2) = Int32.ofNat q.2) ∧
  (match aDr A with | none => P 466 = 0 ∧ P 467 = -1 | some d => P 466 = 1 ∧ ((∃ b, b < 32 ∧ d.1 b = true) → P 467 = Int32.ofNat d.2.2) ∧ ((∀ b, b < 32 → d.1 b = false) → P 467 = -1 ∧ d.2.2 = nowD A)) ∧
  P 468 = aCm A ∧ P 469 = aLs A
def MRr (P : mR) (A : aG) : Prop := ∀ r, r < 2 → P (448 + 3 * r + 0) = (aRt A r).1 ∧ P (448 + 3 * r + 1) = (match (aRt A r).2.1 with | none => -1 | some d => Int32.ofNat d) ∧ P (448 + 3 * r + 2) = (if (aRt A r).2.2 then 1 else 0)
/-- the same of beds, roots and readers alone -/
def MR0 (P : mR) (A : aG) : Prop :=
  (∀ b, b < 32 → MRb P A b) ∧
  (∀ r, r < 2 → P (448 + 3 * r + 0) = (aRt A r).1 ∧ P (448 + 3 * r + 1) = (match (aRt A r).2.1 with | none => -1 | some d => Int32.ofNat d) ∧ P (448 + 3 * r + 2) = (if (aRt A r).2.2 then 1 else 0)) ∧
  (∀ k, k < 4 → match aRd A k with | none => P (454 + 3 * k + 0) = 0 | some q => P (454 + 3 * k + 0) = 1 ∧ P (454 + 3 * k + 1) = q.1 ∧ P (454 + 3 * k + 2) = Int32.ofNat q.2) ∧ True
theorem MR_0 {P : mR} {A : aG} (h : MR P A) : MR0 P A := ⟨h.1, h.2.1, h.2.2.1, trivial⟩
def leafL (A : aG) (b : Nat) : List (Int32 × Int32) := match aPg A b with
  | .inl l => l
  | .inr _ => []
def dirL (A : aG) (b : Nat) : List Nat := match aPg A b with
  | .inl _ => []
  | .inr D => D
def fkey (A : aG) (b : Nat) : Int32 := ((leafL A b).getD 0 (0, 0)).1
/-- a directory whose leaves are all there and not empty -/
def okD (A : aG) (d : Nat) (D : List Nat) : Prop := d < 32 ∧ aSt A d ≠ 0 ∧ aPg A d = .inr D ∧ ∀ b ∈ D, b < 32 ∧ aSt A b ≠ 0 ∧ ∃ l, aPg A b = .inl l ∧ l ≠ []
def plc (A : aG) (D : List Nat) (key : Int32) : Nat → Nat
  | 0 => 0
  | k + 1 => if fkey A (D.getD k 0) ≤ key then k else plc A D key k
def lkp (l : List (Int32 × Int32)) (key : Int32) : Option Nat := l.findIdx? (fun q => q.1 == key)
def valBy (A : aG) (d : Nat) (key : Int32) : Int32 := match dirL A d with
  | [] => -1000
  | b :: D => match lkp (leafL A ((b :: D).getD (plc A (b :: D) key (b :: D).length) 0)) key with
    | none => -1000
    | some i => ((leafL A ((b :: D).getD (plc A (b :: D) key (b :: D).length) 0)).getD i (0, 0)).2
def entsBy (A : aG) (D : List Nat) : Nat := (D.map (fun b => (leafL A b).length)).sum
theorem plc_lt {A : aG} {D : List Nat} {key : Int32} : ∀ n, 0 < n → plc A D key n < n
  | n + 1, _ => by
    rw [plc]
    split
    · omega
    · cases n with
      | zero => exact Nat.zero_lt_one
      | succ n => have := plc_lt (A := A) (D := D) (key := key) (n + 1) (by omega); omega
def okNow (A : aG) : Prop := (aRt A (cur A)).2.1 = some (nowD A)
def isDr (A : aG) : Bool := (aDr A).isSome
def anyNew (A : aG) : Bool := match aDr A with
  | none => false
  | some d => (List.range 32).any d.1
/-- the draft's directory, or what is now -/
def drD (A : aG) : Nat := match aDr A with
  | none => nowD A
  | some d => d.2.2
def opens (A : aG) : Nat := cnt (fun k => (aRd A k).isSome) 4
def bedsFor (A : aG) (D : List Nat) (key : Int32) : Int32 := match D with
  | [] => (if anyNew A then 0 else 1) + 1
  | b :: D' => let lf := (b :: D').getD (plc A (b :: D') key (b :: D').length) 0
    let sp := (lkp (leafL A lf) key).isNone && decide ((leafL A lf).length = 4)
    if sp && decide ((b :: D').length = 6) then -1000 else ((if anyNew A then 0 else 1) + (if isNew A lf then 0 else 1)) + (if sp then 1 else 0)
def vRoot (A : aG) (r w : Nat) : Int32 := match w with
  | 0 => (aRt A r).1
  | 1 => (match (aRt A r).2.1 with | none => -1000 | some d => Int32.ofNat d)
  | 2 => if (aRt A r).2.2 then 1 else 0
  | _ => if cur A = r then 1 else 0
def vReader (A : aG) (k w : Nat) : Int32 := match aRd A k with
  | none => -1000
  | some q => match w with
    | 0 => q.1
    | 1 => Int32.ofNat q.2
    | _ => Int32.ofNat (entsBy A (dirL A q.2))
def pKind (p : Pg) : Int32 := match p with
  | .inl _ => 0
  | .inr _ => 1
def pSize (p : Pg) : Nat := match p with
  | .inl l => l.length
  | .inr D => D.length
def vBed (A : aG) (b w : Nat) : Int32 := match w with
  | 0 => Int32.ofNat (aSt A b)
  | 1 => if aSt A b = 0 then -1000 else pKind (aPg A b)
  | 2 => if aSt A b = 0 then -1000 else Int32.ofNat (pSize (aPg A b))
  | 3 => if aSt A b = 2 then aFw A b else -1000
  | 4 => if digg A b then 1 else 0
  | _ => if isNew A b then 1 else 0
