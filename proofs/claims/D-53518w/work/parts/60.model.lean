/-! THE REFERENCE's cells: its object at m, its six rows behind it. p, aside, saved, text, row, number; states, length, thrown, code, at, command; hash. -/
abbrev mR : Type := Nat → Int32
abbrev mV : Type := mR × mR × mR × mR × mR × mR × Int32 × Int32 × Int32 × Int32 × Int32 × Int32 × Int64
abbrev vp (V : mV) : mR := V.1
abbrev vas (V : mV) : mR := V.2.1
abbrev vsv (V : mV) : mR := V.2.2.1
abbrev vtx (V : mV) : mR := V.2.2.2.1
abbrev vrw (V : mV) : mR := V.2.2.2.2.1
abbrev vnu (V : mV) : mR := V.2.2.2.2.2.1
abbrev vst (V : mV) : Int32 := V.2.2.2.2.2.2.1
abbrev vln (V : mV) : Int32 := V.2.2.2.2.2.2.2.1
abbrev vth (V : mV) : Int32 := V.2.2.2.2.2.2.2.2.1
abbrev vco (V : mV) : Int32 := V.2.2.2.2.2.2.2.2.2.1
abbrev vat (V : mV) : Int32 := V.2.2.2.2.2.2.2.2.2.2.1
abbrev vcm (V : mV) : Int32 := V.2.2.2.2.2.2.2.2.2.2.2.1
abbrev vha (V : mV) : Int64 := V.2.2.2.2.2.2.2.2.2.2.2.2
def wp (V : mV) (f : mR) : mV := (f, V.2)
def was (V : mV) (f : mR) : mV := (V.1, f, V.2.2)
def wsv (V : mV) (f : mR) : mV := (V.1, V.2.1, f, V.2.2.2)
def wtx (V : mV) (f : mR) : mV := (V.1, V.2.1, V.2.2.1, f, V.2.2.2.2)
def wrw (V : mV) (f : mR) : mV := (V.1, V.2.1, V.2.2.1, V.2.2.2.1, f, V.2.2.2.2.2)
def wnu (V : mV) (f : mR) : mV := (V.1, V.2.1, V.2.2.1, V.2.2.2.1, V.2.2.2.2.1, f, V.2.2.2.2.2.2)
def wst (V : mV) (x : Int32) : mV := (V.1, V.2.1, V.2.2.1, V.2.2.2.1, V.2.2.2.2.1, V.2.2.2.2.2.1, x, V.2.2.2.2.2.2.2)
def wln (V : mV) (x : Int32) : mV := (V.1, V.2.1, V.2.2.1, V.2.2.2.1, V.2.2.2.2.1, V.2.2.2.2.2.1, V.2.2.2.2.2.2.1, x, V.2.2.2.2.2.2.2.2)
def wth (V : mV) (x : Int32) : mV := (V.1, V.2.1, V.2.2.1, V.2.2.2.1, V.2.2.2.2.1, V.2.2.2.2.2.1, V.2.2.2.2.2.2.1, V.2.2.2.2.2.2.2.1, x, V.2.2.2.2.2.2.2.2.2)
def wco (V : mV) (x : Int32) : mV := (V.1, V.2.1, V.2.2.1, V.2.2.2.1, V.2.2.2.2.1, V.2.2.2.2.2.1, V.2.2.2.2.2.2.1, V.2.2.2.2.2.2.2.1, V.2.2.2.2.2.2.2.2.1, x, V.2.2.2.2.2.2.2.2.2.2)
def wat (V : mV) (x : Int32) : mV := (V.1, V.2.1, V.2.2.1, V.2.2.2.1, V.2.2.2.2.1, V.2.2.2.2.2.1, V.2.2.2.2.2.2.1, V.2.2.2.2.2.2.2.1, V.2.2.2.2.2.2.2.2.1, V.2.2.2.2.2.2.2.2.2.1, x, V.2.2.2.2.2.2.2.2.2.2.2)
def wcm (V : mV) (x : Int32) : mV := (V.1, V.2.1, V.2.2.1, V.2.2.2.1, V.2.2.2.2.1, V.2.2.2.2.2.1, V.2.2.2.2.2.2.1, V.2.2.2.2.2.2.2.1, V.2.2.2.2.2.2.2.2.1, V.2.2.2.2.2.2.2.2.2.1, V.2.2.2.2.2.2.2.2.2.2.1, x, V.2.2.2.2.2.2.2.2.2.2.2.2)
def wha (V : mV) (x : Int64) : mV := (V.1, V.2.1, V.2.2.1, V.2.2.2.1, V.2.2.2.2.1, V.2.2.2.2.2.1, V.2.2.2.2.2.2.1, V.2.2.2.2.2.2.2.1, V.2.2.2.2.2.2.2.2.1, V.2.2.2.2.2.2.2.2.2.1, V.2.2.2.2.2.2.2.2.2.2.1, V.2.2.2.2.2.2.2.2.2.2.2.1, x)
def mObj (m : Nat) (V : mV) : gC := .inr (9, [.ref (m + 1), .ref (m + 2), .ref (m + 3), .int (vst V), .ref (m + 4), .int (vln V), .int (vth V), .int (vco V), .ref (m + 5), .int (vat V), .int (vcm V), .ref (m + 6), .long (vha V)])
def mRow (n : Nat) (f : mR) : gC := .inl (0, n, .inl f)
def mCell (m : Nat) (V : mV) (d : Nat) : gC := match d with
  | 0 => mObj m V
  | 1 => mRow 470 (vp V)
  | 2 => mRow 470 (vas V)
  | 3 => mRow 1880 (vsv V)
  | 4 => mRow 150 (vtx V)
  | 5 => mRow 10 (vrw V)
  | _ => mRow 2 (vnu V)
def MH (m : Nat) (V : mV) (σ : gS) : gS := (fun a => if m ≤ a ∧ a ≤ m + 6 then some (mCell m V (a - m)) else σ.1 a, σ.2)
theorem MH_at {m : Nat} {V : mV} {σ : gS} (d : Nat) (h : d ≤ 6) : (MH m V σ).1 (m + d) = some (mCell m V d) := by
  unfold MH
  dsimp only
  rw [if_pos (by omega), Nat.add_sub_cancel_left]
theorem MH_0 {m : Nat} {V : mV} {σ : gS} : (MH m V σ).1 m = some (mObj m V) := MH_at 0 (by omega)
theorem MH_up {m : Nat} {V V' : mV} {σ : gS} (d : Nat) (h : d ≤ 6) (h1 : ∀ e, e ≤ 6 → e ≠ d → mCell m V' e = mCell m V e) : gup (MH m V σ) (m + d) (mCell m V' d) = MH m V' σ := by
  unfold gup MH
  refine Prod.ext (funext fun a => ?_) rfl
  dsimp only
  by_cases ha : a = m + d
  · subst ha
    rw [if_pos rfl, if_pos (by omega), Nat.add_sub_cancel_left]
  · rw [if_neg ha]
    by_cases hb : m ≤ a ∧ a ≤ m + 6
    · rw [if_pos hb, if_pos hb, h1 (a - m) (by omega) (by omega)]
    · rw [if_neg hb, if_neg hb]
theorem MH_ck {m : Nat} {V : mV} {σ : gS} : gck (MH m V σ) (some m) 9 = some () := by simp only [gck_u, MH_0, mObj, gcc9_s]
theorem MH_vst {m : Nat} {V : mV} {σ : gS} : gfI (MH m V σ) (some m) 9 3 = some (vst V) := by simp only [gfI_u, MH_0, mObj, gcf_s, List.getElem?_cons_zero, List.getElem?_cons_succ, gvI_int]
theorem MH_wst {κ : gK} {m : Nat} {V : mV} {σ : gS} (hm : κ.1 ≤ m) (x : Int32) : gpf κ (MH m V σ) (some m) 9 3 (.int x) = some (MH m (wst V x) σ) := by
  rw [gpf_u, MH_0, mObj, gpf9_s (by simp) hm]
  exact congrArg some (MH_up (V := V) (V' := wst V x) 0 (by omega) (fun e he h0 => by match e, he, h0 with | 1, _, _ => rfl | 2, _, _ => rfl | 3, _, _ => rfl | 4, _, _ => rfl | 5, _, _ => rfl | e + 6, _, _ => rfl))
theorem MH_vln {m : Nat} {V : mV} {σ : gS} : gfI (MH m V σ) (some m) 9 5 = some (vln V) := by simp only [gfI_u, MH_0, mObj, gcf_s, List.getElem?_cons_zero, List.getElem?_cons_succ, gvI_int]
theorem MH_wln {κ : gK} {m : Nat} {V : mV} {σ : gS} (hm : κ.1 ≤ m) (x : Int32) : gpf κ (MH m V σ) (some m) 9 5 (.int x) = some (MH m (wln V x) σ) := by
  rw [gpf_u, MH_0, mObj, gpf9_s (by simp) hm]
  exact congrArg some (MH_up (V := V) (V' := wln V x) 0 (by omega) (fun e he h0 => by match e, he, h0 with | 1, _, _ => rfl | 2, _, _ => rfl | 3, _, _ => rfl | 4, _, _ => rfl | 5, _, _ => rfl | e + 6, _, _ => rfl))
theorem MH_vth {m : Nat} {V : mV} {σ : gS} : gfI (MH m V σ) (some m) 9 6 = some (vth V) := by simp only [gfI_u, MH_0, mObj, gcf_s, List.getElem?_cons_zero, List.getElem?_cons_succ, gvI_int]
theorem MH_wth {κ : gK} {m : Nat} {V : mV} {σ : gS} (hm : κ.1 ≤ m) (x : Int32) : gpf κ (MH m V σ) (some m) 9 6 (.int x) = some (MH m (wth V x) σ) := by
  rw [gpf_u, MH_0, mObj, gpf9_s (by simp) hm]
  exact congrArg some (MH_up (V := V) (V' := wth V x) 0 (by omega) (fun e he h0 => by match e, he, h0 with | 1, _, _ => rfl | 2, _, _ => rfl | 3, _, _ => rfl | 4, _, _ => rfl | 5, _, _ => rfl | e + 6, _, _ => rfl))
theorem MH_vco {m : Nat} {V : mV} {σ : gS} : gfI (MH m V σ) (some m) 9 7 = some (vco V) := by simp only [gfI_u, MH_0, mObj, gcf_s, List.getElem?_cons_zero, List.getElem?_cons_succ, gvI_int]
theorem MH_wco {κ : gK} {m : Nat} {V : mV} {σ : gS} (hm : κ.1 ≤ m) (x : Int32) : gpf κ (MH m V σ) (some m) 9 7 (.int x) = some (MH m (wco V x) σ) := by
  rw [gpf_u, MH_0, mObj, gpf9_s (by simp) hm]
  exact congrArg some (MH_up (V := V) (V' := wco V x) 0 (by omega) (fun e he h0 => by match e, he, h0 with | 1, _, _ => rfl | 2, _, _ => rfl | 3, _, _ => rfl | 4, _, _ => rfl | 5, _, _ => rfl | e + 6, _, _ => rfl))
theorem MH_vat {m : Nat} {V : mV} {σ : gS} : gfI (MH m V σ) (some m) 9 9 = some (vat V) := by simp only [gfI_u, MH_0, mObj, gcf_s, List.getElem?_cons_zero, List.getElem?_cons_succ, gvI_int]
theorem MH_wat {κ : gK} {m : Nat} {V : mV} {σ : gS} (hm : κ.1 ≤ m) (x : Int32) : gpf κ (MH m V σ) (some m) 9 9 (.int x) = some (MH m (wat V x) σ) := by
  rw [gpf_u, MH_0, mObj, gpf9_s (by simp) hm]
  exact congrArg some (MH_up (V := V) (V' := wat V x) 0 (by omega) (fun e he h0 => by match e, he, h0 with | 1, _, _ => rfl | 2, _, _ => rfl | 3, _, _ => rfl | 4, _, _ => rfl | 5, _, _ => rfl | e + 6, _, _ => rfl))
theorem MH_vcm {m : Nat} {V : mV} {σ : gS} : gfI (MH m V σ) (some m) 9 10 = some (vcm V) := by simp only [gfI_u, MH_0, mObj, gcf_s, List.getElem?_cons_zero, List.getElem?_cons_succ, gvI_int]
theorem MH_wcm {κ : gK} {m : Nat} {V : mV} {σ : gS} (hm : κ.1 ≤ m) (x : Int32) : gpf κ (MH m V σ) (some m) 9 10 (.int x) = some (MH m (wcm V x) σ) := by
  rw [gpf_u, MH_0, mObj, gpf9_s (by simp) hm]
  exact congrArg some (MH_up (V := V) (V' := wcm V x) 0 (by omega) (fun e he h0 => by match e, he, h0 with | 1, _, _ => rfl | 2, _, _ => rfl | 3, _, _ => rfl | 4, _, _ => rfl | 5, _, _ => rfl | e + 6, _, _ => rfl))
theorem MH_vha {m : Nat} {V : mV} {σ : gS} : gfJ (MH m V σ) (some m) 9 12 = some (vha V) := by simp only [gfJ_u, MH_0, mObj, gcf_s, List.getElem?_cons_zero, List.getElem?_cons_succ, gvJ_long]
theorem MH_wha {κ : gK} {m : Nat} {V : mV} {σ : gS} (hm : κ.1 ≤ m) (x : Int64) : gpf κ (MH m V σ) (some m) 9 12 (.long x) = some (MH m (wha V x) σ) := by
  rw [gpf_u, MH_0, mObj, gpf9_s (by simp) hm]
  exact congrArg some (MH_up (V := V) (V' := wha V x) 0 (by omega) (fun e he h0 => by match e, he, h0 with | 1, _, _ => rfl | 2, _, _ => rfl | 3, _, _ => rfl | 4, _, _ => rfl | 5, _, _ => rfl | e + 6, _, _ => rfl))
theorem MH_rvp {m : Nat} {V : mV} {σ : gS} : gfR (MH m V σ) (some m) 9 0 = some (some (m + 1)) := by simp only [gfR_u, MH_0, mObj, gcf_s, List.getElem?_cons_zero, List.getElem?_cons_succ, gvR_ref]
theorem MH_gvp {m : Nat} {V : mV} {σ : gS} {x : Int32} {k : Nat} (hx : x = Int32.ofNat k) (h : k < 470) : gaI (MH m V σ) (some (m + 1)) 0 x = some (vp V k) := by
  subst hx
  rw [gaI_u, MH_at 1 (by omega)]
  exact gai9_s h (by omega)
theorem MH_svp {κ : gK} {m : Nat} {V : mV} {σ : gS} (hm : κ.1 ≤ m) {x : Int32} {k : Nat} (hx : x = Int32.ofNat k) (h : k < 470) (y : Int32) : gsI κ (MH m V σ) (some (m + 1)) x y = some (MH m (wp V (va_up (vp V) k y)) σ) := by
  subst hx
  have h1 := i3_ok (k := k) (by omega)
  simp only [gsI, MH_at 1 (show 1 ≤ 6 by omega), mCell, mRow, h1.2]
  rw [if_pos ⟨trivial, fun h2 => by rcases h2 with h2 | h2; exact h1.1 h2; omega, by omega⟩]
  exact congrArg some (MH_up (V' := wp V (va_up (vp V) k y)) 1 (by omega) (fun e he h0 => by match e, he, h0 with | 0, _, _ => rfl | 2, _, _ => rfl | 3, _, _ => rfl | 4, _, _ => rfl | 5, _, _ => rfl | e + 6, _, _ => rfl))
theorem MH_rvas {m : Nat} {V : mV} {σ : gS} : gfR (MH m V σ) (some m) 9 1 = some (some (m + 2)) := by simp only [gfR_u, MH_0, mObj, gcf_s, List.getElem?_cons_zero, List.getElem?_cons_succ, gvR_ref]
theorem MH_gvas {m : Nat} {V : mV} {σ : gS} {x : Int32} {k : Nat} (hx : x = Int32.ofNat k) (h : k < 470) : gaI (MH m V σ) (some (m + 2)) 0 x = some (vas V k) := by
  subst hx
  rw [gaI_u, MH_at 2 (by omega)]
  exact gai9_s h (by omega)
theorem MH_svas {κ : gK} {m : Nat} {V : mV} {σ : gS} (hm : κ.1 ≤ m) {x : Int32} {k : Nat} (hx : x = Int32.ofNat k) (h : k < 470) (y : Int32) : gsI κ (MH m V σ) (some (m + 2)) x y = some (MH m (was V (va_up (vas V) k y)) σ) := by
  subst hx
  have h1 := i3_ok (k := k) (by omega)
  simp only [gsI, MH_at 2 (show 2 ≤ 6 by omega), mCell, mRow, h1.2]
  rw [if_pos ⟨trivial, fun h2 => by rcases h2 with h2 | h2; exact h1.1 h2; omega, by omega⟩]
  exact congrArg some (MH_up (V' := was V (va_up (vas V) k y)) 2 (by omega) (fun e he h0 => by match e, he, h0 with | 0, _, _ => rfl | 1, _, _ => rfl | 3, _, _ => rfl | 4, _, _ => rfl | 5, _, _ => rfl | e + 6, _, _ => rfl))
theorem MH_rvsv {m : Nat} {V : mV} {σ : gS} : gfR (MH m V σ) (some m) 9 2 = some (some (m + 3)) := by simp only [gfR_u, MH_0, mObj, gcf_s, List.getElem?_cons_zero, List.getElem?_cons_succ, gvR_ref]
theorem MH_gvsv {m : Nat} {V : mV} {σ : gS} {x : Int32} {k : Nat} (hx : x = Int32.ofNat k) (h : k < 1880) : gaI (MH m V σ) (some (m + 3)) 0 x = some (vsv V k) := by
  subst hx
  rw [gaI_u, MH_at 3 (by omega)]
  exact gai9_s h (by omega)
theorem MH_svsv {κ : gK} {m : Nat} {V : mV} {σ : gS} (hm : κ.1 ≤ m) {x : Int32} {k : Nat} (hx : x = Int32.ofNat k) (h : k < 1880) (y : Int32) : gsI κ (MH m V σ) (some (m + 3)) x y = some (MH m (wsv V (va_up (vsv V) k y)) σ) := by
  subst hx
  have h1 := i3_ok (k := k) (by omega)
  simp only [gsI, MH_at 3 (show 3 ≤ 6 by omega), mCell, mRow, h1.2]
  rw [if_pos ⟨trivial, fun h2 => by rcases h2 with h2 | h2; exact h1.1 h2; omega, by omega⟩]
  exact congrArg some (MH_up (V' := wsv V (va_up (vsv V) k y)) 3 (by omega) (fun e he h0 => by match e, he, h0 with | 0, _, _ => rfl | 1, _, _ => rfl | 2, _, _ => rfl | 4, _, _ => rfl | 5, _, _ => rfl | e + 6, _, _ => rfl))
theorem MH_rvtx {m : Nat} {V : mV} {σ : gS} : gfR (MH m V σ) (some m) 9 4 = some (some (m + 4)) := by simp only [gfR_u, MH_0, mObj, gcf_s, List.getElem?_cons_zero, List.getElem?_cons_succ, gvR_ref]
theorem MH_gvtx {m : Nat} {V : mV} {σ : gS} {x : Int32} {k : Nat} (hx : x = Int32.ofNat k) (h : k < 150) : gaI (MH m V σ) (some (m + 4)) 0 x = some (vtx V k) := by
  subst hx
  rw [gaI_u, MH_at 4 (by omega)]
  exact gai9_s h (by omega)
theorem MH_svtx {κ : gK} {m : Nat} {V : mV} {σ : gS} (hm : κ.1 ≤ m) {x : Int32} {k : Nat} (hx : x = Int32.ofNat k) (h : k < 150) (y : Int32) : gsI κ (MH m V σ) (some (m + 4)) x y = some (MH m (wtx V (va_up (vtx V) k y)) σ) := by
  subst hx
  have h1 := i3_ok (k := k) (by omega)
  simp only [gsI, MH_at 4 (show 4 ≤ 6 by omega), mCell, mRow, h1.2]
  rw [if_pos ⟨trivial, fun h2 => by rcases h2 with h2 | h2; exact h1.1 h2; omega, by omega⟩]
  exact congrArg some (MH_up (V' := wtx V (va_up (vtx V) k y)) 4 (by omega) (fun e he h0 => by match e, he, h0 with | 0, _, _ => rfl | 1, _, _ => rfl | 2, _, _ => rfl | 3, _, _ => rfl | 5, _, _ => rfl | e + 6, _, _ => rfl))
theorem MH_rvrw {m : Nat} {V : mV} {σ : gS} : gfR (MH m V σ) (some m) 9 8 = some (some (m + 5)) := by simp only [gfR_u, MH_0, mObj, gcf_s, List.getElem?_cons_zero, List.getElem?_cons_succ, gvR_ref]
theorem MH_gvrw {m : Nat} {V : mV} {σ : gS} {x : Int32} {k : Nat} (hx : x = Int32.ofNat k) (h : k < 10) : gaI (MH m V σ) (some (m + 5)) 0 x = some (vrw V k) := by
  subst hx
  rw [gaI_u, MH_at 5 (by omega)]
  exact gai9_s h (by omega)
theorem MH_svrw {κ : gK} {m : Nat} {V : mV} {σ : gS} (hm : κ.1 ≤ m) {x : Int32} {k : Nat} (hx : x = Int32.ofNat k) (h : k < 10) (y : Int32) : gsI κ (MH m V σ) (some (m + 5)) x y = some (MH m (wrw V (va_up (vrw V) k y)) σ) := by
  subst hx
  have h1 := i3_ok (k := k) (by omega)
  simp only [gsI, MH_at 5 (show 5 ≤ 6 by omega), mCell, mRow, h1.2]
  rw [if_pos ⟨trivial, fun h2 => by rcases h2 with h2 | h2; exact h1.1 h2; omega, by omega⟩]
  exact congrArg some (MH_up (V' := wrw V (va_up (vrw V) k y)) 5 (by omega) (fun e he h0 => by match e, he, h0 with | 0, _, _ => rfl | 1, _, _ => rfl | 2, _, _ => rfl | 3, _, _ => rfl | 4, _, _ => rfl | e + 6, _, _ => rfl))
theorem MH_rvnu {m : Nat} {V : mV} {σ : gS} : gfR (MH m V σ) (some m) 9 11 = some (some (m + 6)) := by simp only [gfR_u, MH_0, mObj, gcf_s, List.getElem?_cons_zero, List.getElem?_cons_succ, gvR_ref]
theorem MH_gvnu {m : Nat} {V : mV} {σ : gS} {x : Int32} {k : Nat} (hx : x = Int32.ofNat k) (h : k < 2) : gaI (MH m V σ) (some (m + 6)) 0 x = some (vnu V k) := by
  subst hx
  rw [gaI_u, MH_at 6 (by omega)]
  exact gai9_s h (by omega)
theorem MH_svnu {κ : gK} {m : Nat} {V : mV} {σ : gS} (hm : κ.1 ≤ m) {x : Int32} {k : Nat} (hx : x = Int32.ofNat k) (h : k < 2) (y : Int32) : gsI κ (MH m V σ) (some (m + 6)) x y = some (MH m (wnu V (va_up (vnu V) k y)) σ) := by
  subst hx
  have h1 := i3_ok (k := k) (by omega)
  simp only [gsI, MH_at 6 (show 6 ≤ 6 by omega), mCell, mRow, h1.2]
  rw [if_pos ⟨trivial, fun h2 => by rcases h2 with h2 | h2; exact h1.1 h2; omega, by omega⟩]
  exact congrArg some (MH_up (V := V) (V' := wnu V (va_up (vnu V) k y)) 6 (by omega) (fun e he h0 => by match e, he, h0 with | 0, _, _ => rfl | 1, _, _ => rfl | 2, _, _ => rfl | 3, _, _ => rfl | 4, _, _ => rfl | 5, _, _ => rfl | e + 6, he, h0 => exact absurd (by omega) h0))
