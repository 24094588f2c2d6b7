/-! the command text: what it says -/
def chN (tx : List Int32) (i : Nat) : Nat := (tx.getD i 0).toNatClampNeg
def isC (tx : List Int32) (a b i : Nat) : Bool := decide (i < tx.length) && (decide (a ≤ chN tx i) && decide (chN tx i ≤ b))
def hr (tx : List Int32) (i : Nat) : Int32 := if i < tx.length then Int32.ofNat (chN tx i) else -1
def skp (p : Nat → Bool) : Nat → Nat → Nat
  | 0, i => i
  | d + 1, i => if p i then skp p d (i + 1) else i
def skT (tx : List Int32) (a b i : Nat) : Nat := skp (isC tx a b) (tx.length - i) i
theorem isC_lt {tx : List Int32} {a b i : Nat} (h : isC tx a b i = true) : i < tx.length := by
  unfold isC at h
  exact of_decide_eq_true (Bool.and_eq_true_iff.mp h).1
theorem isC_iff {tx : List Int32} {a b i : Nat} : isC tx a b i = true ↔ i < tx.length ∧ a ≤ chN tx i ∧ chN tx i ≤ b := by
  unfold isC
  simp
theorem skT_eq (tx : List Int32) (a b i : Nat) : skT tx a b i = if isC tx a b i then skT tx a b (i + 1) else i := by
  unfold skT
  cases hd : tx.length - i with
  | zero =>
    have : isC tx a b i = false := by
      cases hx : isC tx a b i with
      | false => rfl
      | true => have := isC_lt hx; omega
    rw [this, if_neg (by decide)]
    rfl
  | succ d =>
    rw [skp, show tx.length - (i + 1) = d by omega]
theorem skp_ge (p : Nat → Bool) : ∀ d i, i ≤ skp p d i ∧ skp p d i ≤ i + d
  | 0, i => ⟨Nat.le_refl _, Nat.le_refl _⟩
  | d + 1, i => by
    rw [skp]
    split
    · have := skp_ge p d (i + 1); omega
    · omega
theorem skT_ge {tx : List Int32} {a b i : Nat} (h : i ≤ tx.length) : i ≤ skT tx a b i ∧ skT tx a b i ≤ tx.length := by
  have := skp_ge (isC tx a b) (tx.length - i) i
  unfold skT
  omega
theorem skp_in {p : Nat → Bool} : ∀ {d i k : Nat}, i ≤ k → k < skp p d i → p k = true
  | 0, i, k, h, h2 => by rw [skp] at h2; omega
  | d + 1, i, k, h, h2 => by
    rw [skp] at h2
    by_cases c : p i = true
    · rw [if_pos c] at h2
      by_cases e : k = i
      · rw [e]; exact c
      · exact skp_in (d := d) (i := i + 1) (by omega) h2
    · rw [if_neg c] at h2
      omega
/-- the letters from i to j -/
def wd (tx : List Int32) (i n : Nat) : List Nat := (List.range n).map (fun k => chN tx (i + k))
def cmdW (w : List Nat) : Nat :=
  if w = [98, 101, 103, 105, 110] then 1 else if w = [112, 117, 116] then 2 else if w = [100, 114, 111, 112] then 3 else
  if w = [99, 111, 109, 109, 105, 116] then 4 else if w = [97, 98, 111, 114, 116] then 5 else if w = [111, 112, 101, 110] then 6 else
  if w = [99, 108, 111, 115, 101] then 7 else 0
def cdR : List Nat → Nat
  | [] => 0
  | c :: r => 32 * cdR r + (c - 96)
def cdN (w : List Nat) : Nat := cdR w.reverse
def okW (w : List Nat) : Prop := ∀ c ∈ w, 97 ≤ c ∧ c ≤ 122
theorem cdR_inj : ∀ (r r' : List Nat), okW r → okW r' → cdR r = cdR r' → r = r'
  | [], [], _, _, _ => rfl
  | [], c :: r, _, h, e => by
    have := h c List.mem_cons_self
    rw [cdR, cdR] at e
    omega
  | c :: r, [], h, _, e => by
    have := h c List.mem_cons_self
    rw [cdR, cdR] at e
    omega
  | c :: r, c' :: r', h, h', e => by
    have h1 := h c List.mem_cons_self
    have h2 := h' c' List.mem_cons_self
    rw [cdR, cdR] at e
    have e1 : cdR r = cdR r' := by omega
    have e2 : c = c' := by omega
    rw [cdR_inj r r' (fun x hx => h x (List.mem_cons_of_mem _ hx)) (fun x hx => h' x (List.mem_cons_of_mem _ hx)) e1, e2]
theorem cdN_inj {w w' : List Nat} (h : okW w) (h' : okW w') (e : cdN w = cdN w') : w = w' := by
  have := cdR_inj w.reverse w'.reverse (fun c hc => h c (List.mem_reverse.mp hc)) (fun c hc => h' c (List.mem_reverse.mp hc)) e
  have h2 := congrArg List.reverse this
  rwa [List.reverse_reverse, List.reverse_reverse] at h2
theorem wd_s (tx : List Int32) (i n : Nat) : wd tx i (n + 1) = wd tx i n ++ [chN tx (i + n)] := by
  unfold wd
  rw [List.range_succ, List.map_append]
  rfl
theorem cdN_s (w : List Nat) (c : Nat) : cdN (w ++ [c]) = 32 * cdN w + (c - 96) := by
  unfold cdN
  rw [List.reverse_append]
  rfl
theorem wd_len (tx : List Int32) (i n : Nat) : (wd tx i n).length = n := by unfold wd; rw [List.length_map, List.length_range]
theorem cdR_lt : ∀ (r : List Nat), okW r → cdR r < 32 ^ r.length
  | [], _ => by decide
  | c :: r, h => by
    have h1 := h c List.mem_cons_self
    have ih := cdR_lt r (fun x hx => h x (List.mem_cons_of_mem _ hx))
    rw [cdR, List.length_cons, Nat.pow_succ]
    omega
theorem cdN_lt {w : List Nat} (h : okW w) (hl : w.length ≤ 6) : cdN w < 1073741824 := by
  have h1 := cdR_lt w.reverse (fun c hc => h c (List.mem_reverse.mp hc))
  rw [List.length_reverse] at h1
  have h2 : 32 ^ w.length ≤ 32 ^ 6 := Nat.pow_le_pow_right (by decide) hl
  unfold cdN
  omega
/-- digits' number -/
def nmV (tx : List Int32) (j : Nat) : Nat → Nat
  | 0 => 0
  | n + 1 => 10 * nmV tx j n + (chN tx (j + n) - 48)
def dgE (tx : List Int32) (j : Nat) : Nat := skp (isC tx 48 57) 3 j
def rNum (tx : List Int32) (i : Nat) : Bool × Nat × Nat := if isC tx 32 32 i then (decide (skT tx 32 32 i < dgE tx (skT tx 32 32 i)), dgE tx (skT tx 32 32 i), nmV tx (skT tx 32 32 i) (dgE tx (skT tx 32 32 i) - skT tx 32 32 i)) else (false, i, 0)
def rFin (tx : List Int32) (i : Nat) : Bool × Nat := if isC tx 59 59 (skT tx 32 32 i) then (true, skT tx 32 32 i + 1) else (false, skT tx 32 32 i)
def nNum (c : Nat) : Nat := if c = 2 then 2 else if c = 3 ∨ c = 4 ∨ c = 7 then 1 else 0
abbrev aC : Type := Nat × Nat × Nat
def rEnd (tx : List Int32) (c a b i : Nat) : Bool × Nat × aC := ((rFin tx i).1, (rFin tx i).2, c, a, b)
def rArg (tx : List Int32) (c i : Nat) : Bool × Nat × aC :=
  if nNum c = 0 then rEnd tx c 0 0 i else
  let a := rNum tx i
  if a.1 then (if nNum c = 1 then rEnd tx c a.2.2 0 a.2.1 else
    let b := rNum tx a.2.1
    if b.1 then rEnd tx c a.2.2 b.2.2 b.2.1 else (false, b.2.1, 0, 0, 0)) else (false, a.2.1, 0, 0, 0)
def rCmd (tx : List Int32) (i : Nat) : Bool × Nat × aC :=
  let j := skT tx 97 122 i
  let c := cmdW (wd tx i (j - i))
  if c = 0 then (false, i, 0, 0, 0) else rArg tx c j
/-- the commands from a place on, or the place of a fault -/
def prs (tx : List Int32) : Nat → Nat → Nat ⊕ List aC
  | 0, i => .inl i
  | f + 1, i => if tx.length ≤ i then .inr [] else
    if (rCmd tx i).1 then (match prs tx f (skT tx 32 32 (rCmd tx i).2.1) with
      | .inl p => .inl p
      | .inr cs => .inr ((rCmd tx i).2.2 :: cs)) else .inl (rCmd tx i).2.1
theorem dgE_ge (tx : List Int32) (j : Nat) : j ≤ dgE tx j ∧ dgE tx j ≤ j + 3 := skp_ge _ _ _
theorem dgE_len {tx : List Int32} {j : Nat} (h : j ≤ tx.length) : dgE tx j ≤ tx.length := by
  unfold dgE
  rcases Nat.lt_or_ge tx.length (skp (isC tx 48 57) 3 j) with c | c
  · have := isC_lt (skp_in (p := isC tx 48 57) (d := 3) (i := j) (k := tx.length) h c)
    omega
  · exact c
theorem rNum_le {tx : List Int32} {i : Nat} (h : i ≤ tx.length) : i ≤ (rNum tx i).2.1 ∧ (rNum tx i).2.1 ≤ tx.length := by
  unfold rNum
  split
  · have h1 := skT_ge (a := 32) (b := 32) h
    have h2 := dgE_ge tx (skT tx 32 32 i)
    have h3 := dgE_len h1.2
    exact ⟨by show i ≤ dgE tx _; omega, h3⟩
  · exact ⟨Nat.le_refl _, h⟩
theorem rFin_le {tx : List Int32} {i : Nat} (h : i ≤ tx.length) : i ≤ (rFin tx i).2 ∧ (rFin tx i).2 ≤ tx.length := by
  unfold rFin
  have h1 := skT_ge (a := 32) (b := 32) h
  split
  · rename_i c
    have := isC_lt c
    exact ⟨by show i ≤ _ + 1; omega, this⟩
  · exact h1
theorem rArg_le {tx : List Int32} {c i : Nat} (h : i ≤ tx.length) : i ≤ (rArg tx c i).2.1 ∧ (rArg tx c i).2.1 ≤ tx.length := by
  unfold rArg
  simp only
  have h1 := rNum_le h
  have h2 := rNum_le h1.2
  split
  · exact rFin_le h
  · split
    · split
      · have := rFin_le h1.2; exact ⟨Nat.le_trans h1.1 this.1, this.2⟩
      · split
        · have := rFin_le h2.2; exact ⟨Nat.le_trans h1.1 (Nat.le_trans h2.1 this.1), this.2⟩
        · exact ⟨Nat.le_trans h1.1 h2.1, h2.2⟩
    · exact h1
theorem rCmd_le {tx : List Int32} {i : Nat} (h : i ≤ tx.length) : (rCmd tx i).2.1 ≤ tx.length ∧ ((rCmd tx i).1 = true → i < (rCmd tx i).2.1) := by
  unfold rCmd
  simp only
  have h1 := skT_ge (a := 97) (b := 122) h
  split
  · exact ⟨h, fun e => by cases e⟩
  · rename_i hc
    have h2 := rArg_le (c := cmdW (wd tx i (skT tx 97 122 i - i))) h1.2
    refine ⟨h2.2, fun _ => ?_⟩
    have : i < skT tx 97 122 i := by
      rcases Nat.lt_or_ge i (skT tx 97 122 i) with e | e
      · exact e
      · exfalso
        apply hc
        rw [show skT tx 97 122 i - i = 0 by omega]
        rfl
    omega
/-! what a command does -/
def spCmd (A : aG) (q : aC) : (aG × Int32) ⊕ Int32 := match q.1 with
  | 1 => spBegin A
  | 2 => spPut A (Int32.ofNat q.2.1) (Int32.ofNat q.2.2)
  | 3 => spRem A (Int32.ofNat q.2.1)
  | 4 => spCommit A (Int32.ofNat q.2.1)
  | 5 => spAbort A
  | 6 => spOpen A
  | _ => spClose A (Int32.ofNat q.2.1)
/-- commands as long as none is refused: the garden behind them, how many -/
def exe : List aC → aG → aG × Nat
  | [], A => (A, 0)
  | c :: cs, A => match spCmd A c with
    | .inr _ => (A, 0)
    | .inl q => ((exe cs q.1).1, (exe cs q.1).2 + 1)
def spRun (S : aS) : Int32 × aS := match prs S.2.2 (S.2.2.length + 1) (skT S.2.2 32 32 0) with
  | .inl p => (-10 - Int32.ofNat p, S)
  | .inr cs => (Int32.ofNat (exe cs S.1).2, ((exe cs S.1).1, pushL S.2.1 S.1, S.2.2))
/-! the reference's reading -/
def TX (V : mV) (tx : List Int32) : Prop := vln V = Int32.ofNat tx.length ∧ (∀ i, i < tx.length → vtx V i = Int32.ofNat (chN tx i)) ∧ tx.length ≤ 150 ∧ ∀ i, i < tx.length → chN tx i ≤ 127
theorem TX_of {n : Nat} {V : mV} {S : aS} (h : MM V S) (hw : WS n S) : TX V S.2.2 := by
  have hc : ∀ i, i < S.2.2.length → 0 ≤ S.2.2.getD i 0 ∧ S.2.2.getD i 0 ≤ 127 := fun i hi => hw.2.2.2.2 _ (getD_mem hi)
  have hs : ∀ i, i < S.2.2.length → ∃ s, s ≤ 127 ∧ S.2.2.getD i 0 = Int32.ofNat s := fun i hi => inR_nat (b := 127) (by omega) (by unfold inR; exact decide_eq_true (hc i hi))
  refine ⟨h.2.2.2.1, fun i hi => ?_, hw.2.2.2.1, fun i hi => ?_⟩
  · obtain ⟨s, s1, s2⟩ := hs i hi
    rw [h.2.2.2.2 i hi]
    unfold chN
    rw [s2, (i3_ok (by omega)).2]
  · obtain ⟨s, s1, s2⟩ := hs i hi
    unfold chN
    rw [s2, (i3_ok (by omega)).2]
    exact s1
theorem hr_isC {tx : List Int32} {V : mV} (ht : TX V tx) {a b i : Nat} (ha : a < 1000) (hb : b < 1000) : inR (hr tx i) (Int32.ofNat a) (Int32.ofNat b) = isC tx a b i := by
  unfold inR hr
  by_cases c : i < tx.length
  · have h127 := ht.2.2.2 i c
    rw [if_pos c]
    have e : (Int32.ofNat a ≤ Int32.ofNat (chN tx i) ∧ Int32.ofNat (chN tx i) ≤ Int32.ofNat b) ↔ isC tx a b i = true := by
      rw [i3_le (by omega) (by omega), i3_le (by omega) (by omega), isC_iff]
      exact ⟨fun h => ⟨c, h⟩, fun h => h.2⟩
    cases hx : isC tx a b i with
    | true => exact decide_eq_true (e.mpr hx)
    | false => exact decide_eq_false (fun h => by rw [e.mp h] at hx; cases hx)
  · rw [if_neg c]
    have h1 : isC tx a b i = false := by
      cases hx : isC tx a b i with
      | false => rfl
      | true => exact absurd (isC_lt hx) c
    rw [h1]
    refine decide_eq_false (fun h => ?_)
    have h2 := Int32.le_iff_toInt_le.mp h.1
    rw [Int32.toInt_ofNat_small (by omega)] at h2
    have h3 : (-1 : Int32).toInt = -1 := rfl
    omega
theorem hr_eq {tx : List Int32} {V : mV} (ht : TX V tx) {a i : Nat} (ha : a < 1000) : (hr tx i = Int32.ofNat a) ↔ isC tx a a i = true := by
  rw [← hr_isC ht ha ha]
  unfold inR
  constructor
  · intro h
    rw [h]
    exact decide_eq_true ⟨Int32.le_refl _, Int32.le_refl _⟩
  · intro h
    obtain ⟨h1, h2⟩ := of_decide_eq_true h
    exact Int32.le_antisymm h2 h1
section Q
variable {κ : gK} {F : Nat} {m : Nat} {V : mV} {σ : gS}
/-- reading at a place -/
def pV (V : mV) (a c : Int32) (N : mR) : mV := wnu (wcm (wat V a) c) N
theorem wat_pV (V : mV) (a b c : Int32) (N : mR) : wat (pV V a c N) b = pV V b c N := by simp only [pV, wat, wcm, wnu]
theorem wcm_pV (V : mV) (a b c : Int32) (N : mR) : wcm (pV V a c N) b = pV V a b N := by simp only [pV, wat, wcm, wnu]
theorem wnu_pV (V : mV) (a c : Int32) (N N' : mR) : wnu (pV V a c N) N' = pV V a c N' := by simp only [pV, wat, wcm, wnu]
theorem vat_pV (V : mV) (a c : Int32) (N : mR) : vat (pV V a c N) = a := by simp only [pV, wat, wcm, wnu, vat]
theorem vcm_pV (V : mV) (a c : Int32) (N : mR) : vcm (pV V a c N) = c := by simp only [pV, wat, wcm, wnu, vcm]
theorem vnu_pV (V : mV) (a c : Int32) (N : mR) : vnu (pV V a c N) = N := by simp only [pV, wat, wcm, wnu, vnu]
theorem vln_pV (V : mV) (a c : Int32) (N : mR) : vln (pV V a c N) = vln V := by simp only [pV, wat, wcm, wnu, vln]
theorem vtx_pV (V : mV) (a c : Int32) (N : mR) : vtx (pV V a c N) = vtx V := by simp only [pV, wat, wcm, wnu, vtx]
theorem TX_pV {tx : List Int32} (h : TX V tx) (a c : Int32) (N : mR) : TX (pV V a c N) tx := by
  unfold TX
  rw [vln_pV, vtx_pV]
  exact h
theorem q_here {tx : List Int32} (h : TX V tx) {i : Nat} {c : Int32} {N : mR} (hi : i ≤ tx.length) : f_X6_here κ F (some m) (MH m (pV V (Int32.ofNat i) c N) σ) = some (hr tx i, MH m (pV V (Int32.ofNat i) c N) σ) := by
  have h1 : vln (pV V (Int32.ofNat i) c N) = Int32.ofNat tx.length := by rw [vln_pV]; exact h.1
  have h2 := vat_pV V (Int32.ofNat i) c N
  have h150 := h.2.2.1
  unfold hr
  rw [f_X6_here, f_X6_here_0, MH_vat, gB1_s, MH_vln, gB1_s, h1, h2]
  by_cases e : i < tx.length
  · have g : gaI (MH m (pV V (Int32.ofNat i) c N) σ) (some (m + 4)) 0 (Int32.ofNat i) = some (vtx (pV V (Int32.ofNat i) c N) i) := MH_gvtx rfl (by omega)
    have e2 : vtx (pV V (Int32.ofNat i) c N) i = Int32.ofNat (chN tx i) := by rw [vtx_pV]; exact h.2.1 i e
    rw [if_pos e, if_neg (by rw [i3_le (by omega) (by omega)]; omega), MH_rvtx, gB1_s, gB1_s, g, gB1_s, e2, f_X6_here_24]
  · rw [if_neg e, if_pos ((i3_le (by omega) (by omega)).mpr (by omega)), f_X6_here_24]
theorem q_spaces0 {tx : List Int32} (h : TX V tx) (hm : κ.1 ≤ m) {c : Int32} {N : mR} (fuel : Nat) : ∀ (d i : Nat), i + d = tx.length → d < fuel → f_X6_spaces_0 κ F fuel (some m) (MH m (pV V (Int32.ofNat i) c N) σ) = some ((), MH m (pV V (Int32.ofNat (skT tx 32 32 i)) c N) σ) := by
  induction fuel with
  | zero => intro d i hi hf; exact absurd hf (Nat.not_lt_zero _)
  | succ fuel ih =>
    intro d i hi hf
    have h2 := vat_pV V (Int32.ofNat i) c N
    have he := hr_eq (a := 32) (i := i) h (by omega)
    rw [f_X6_spaces_0, f_X6_spaces_0b, MH_ck, gB1_s, q_here h (by omega), gB2_s, skT_eq]
    by_cases e : isC tx 32 32 i = true
    · have hlt := isC_lt e
      rw [if_pos e, if_pos (show hr tx i = (32 : Int32) from he.mpr e), MH_vat, gB1_s, h2, MH_wat hm, gB1_s, i3_s, wat_pV]
      exact ih (d - 1) (i + 1) (by omega) (by omega)
    · rw [if_neg e, if_neg (show ¬ hr tx i = (32 : Int32) from fun e2 => e (he.mp e2))]
theorem q_spaces {tx : List Int32} (h : TX V tx) (hm : κ.1 ≤ m) (hF : 200 ≤ F) {c : Int32} {N : mR} {i : Nat} (hi : i ≤ tx.length) : f_X6_spaces κ F (some m) (MH m (pV V (Int32.ofNat i) c N) σ) = some ((), MH m (pV V (Int32.ofNat (skT tx 32 32 i)) c N) σ) := by
  have := h.2.2.1
  rw [f_X6_spaces]
  exact q_spaces0 h hm F (tx.length - i) i (by omega) (by omega)
theorem mean_1 {w w' : List Nat} (h : okW w) (h' : okW w') (hl : w.length ≤ 6 ∨ 6 < w.length ∧ w'.length ≤ 6) (hp : 0 < cdN w') (hl' : w'.length ≤ 6) {x : Int64} (hx : x = Int64.ofNat (cdN w')) : (lg_cmp (Int64.ofNat (if w.length ≤ 6 then cdN w else 0)) x = 0) = (w = w') := by
  subst hx
  have b' := cdN_lt h' hl'
  rw [lg_cmp_eq]
  apply propext
  constructor
  · intro e
    by_cases c : w.length ≤ 6
    · rw [if_pos c] at e
      have b := cdN_lt h c
      have e2 := congrArg Int64.toNatClampNeg e
      rw [Int64.toNatClampNeg_ofNat_of_lt (by omega), Int64.toNatClampNeg_ofNat_of_lt (by omega)] at e2
      exact cdN_inj h h' e2
    · rw [if_neg c] at e
      have e2 := congrArg Int64.toNatClampNeg e
      rw [Int64.toNatClampNeg_ofNat_of_lt (by omega), Int64.toNatClampNeg_ofNat_of_lt (by omega)] at e2
      omega
  · intro e
    subst e
    rw [if_pos hl']
theorem okW_lit : okW [98, 101, 103, 105, 110] ∧ okW [112, 117, 116] ∧ okW [100, 114, 111, 112] ∧ okW [99, 111, 109, 109, 105, 116] ∧ okW [97, 98, 111, 114, 116] ∧ okW [111, 112, 101, 110] ∧ okW [99, 108, 111, 115, 101] := by
  unfold okW
  decide
theorem q_meaning {w : List Nat} (h : okW w) (s : gS) : f_X6_meaning κ F (Int64.ofNat (if w.length ≤ 6 then cdN w else 0)) s = some (Int32.ofNat (cmdW w), s) := by
  obtain ⟨o1, o2, o3, o4, o5, o6, o7⟩ := okW_lit
  have hl : ∀ w' : List Nat, w'.length ≤ 6 → w.length ≤ 6 ∨ 6 < w.length ∧ w'.length ≤ 6 := fun w' hw' => by omega
  have m1 := mean_1 h o1 (hl _ (by decide)) (by decide) (by decide) (x := 2268462) (by decide)
  have m2 := mean_1 h o2 (hl _ (by decide)) (by decide) (by decide) (x := 17076) (by decide)
  have m3 := mean_1 h o3 (hl _ (by decide)) (by decide) (by decide) (x := 150000) (by decide)
  have m4 := mean_1 h o4 (hl _ (by decide)) (by decide) (by decide) (x := 116831540) (by decide)
  have m5 := mean_1 h o5 (hl _ (by decide)) (by decide) (by decide) (x := 1130068) (by decide)
  have m6 := mean_1 h o6 (hl _ (by decide)) (by decide) (by decide) (x := 508078) (by decide)
  have m7 := mean_1 h o7 (hl _ (by decide)) (by decide) (by decide) (x := 3554917) (by decide)
  rw [f_X6_meaning, f_X6_meaning_0]
  simp only [m1, m2, m3, m4, m5, m6, m7, f_X6_meaning_87]
  unfold cmdW
  split
  · rfl
  · split
    · rfl
    · split
      · rfl
      · split
        · rfl
        · split
          · rfl
          · split
            · rfl
            · split
              · rfl
              · rfl
end Q
