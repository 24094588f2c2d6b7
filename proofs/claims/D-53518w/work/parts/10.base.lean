set_option maxRecDepth 100000
/-! the classes whose objects the pure heap holds, by number; constants of the start -/
def gCl : List vw_C := [(RX1, TX1, 4), (RX2, TX2, 1), (RX9, TX9, 2), (RX5, TX5, 1), (RX4, TX4, 3), (RX10, TX10, 2), (RX7, TX7, 3), (RX3, TX3, 9), (RX11, TX11, 5), (RX6, TX6, 13), (RJ2, TJ2, 12), (RJ19, TJ19, 6), (RJ28, TJ28, 1), (RJ25, TJ25, 3), (RJ37, TJ37, 5), (RJ33, TJ33, 2), (RJ4, TJ4, 4), (RJ13, TJ13, 4)]
theorem gcl0 : gCl[0]? = some (RX1, TX1, 4) := rfl
def g0_X1 : List Value := [.null, .null, .null, .int 0]
theorem g0_X1_ok : ∀ j, j < 4 → defaultValue (tyX1 j) = vp_V g0_X1 j := by
  intro j hj
  match j, hj with
  | 0, _ => rfl
  | 1, _ => rfl
  | 2, _ => rfl
  | 3, _ => rfl
  | k + 4, h => exact absurd h (by omega)
theorem gcl1 : gCl[1]? = some (RX2, TX2, 1) := rfl
def g0_X2 : List Value := [.int 0]
theorem g0_X2_ok : ∀ j, j < 1 → defaultValue (tyX2 j) = vp_V g0_X2 j := by
  intro j hj
  match j, hj with
  | 0, _ => rfl
  | k + 1, h => exact absurd h (by omega)
theorem gcl2 : gCl[2]? = some (RX9, TX9, 2) := rfl
def g0_X9 : List Value := [.null, .null]
theorem g0_X9_ok : ∀ j, j < 2 → defaultValue (tyX9 j) = vp_V g0_X9 j := by
  intro j hj
  match j, hj with
  | 0, _ => rfl
  | 1, _ => rfl
  | k + 2, h => exact absurd h (by omega)
theorem gcl3 : gCl[3]? = some (RX5, TX5, 1) := rfl
def g0_X5 : List Value := [.null]
theorem g0_X5_ok : ∀ j, j < 1 → defaultValue (tyX5 j) = vp_V g0_X5 j := by
  intro j hj
  match j, hj with
  | 0, _ => rfl
  | k + 1, h => exact absurd h (by omega)
theorem gcl4 : gCl[4]? = some (RX4, TX4, 3) := rfl
def g0_X4 : List Value := [.int 0, .int 0, .int 0]
theorem g0_X4_ok : ∀ j, j < 3 → defaultValue (tyX4 j) = vp_V g0_X4 j := by
  intro j hj
  match j, hj with
  | 0, _ => rfl
  | 1, _ => rfl
  | 2, _ => rfl
  | k + 3, h => exact absurd h (by omega)
theorem gcl5 : gCl[5]? = some (RX10, TX10, 2) := rfl
def g0_X10 : List Value := [.int 0, .int 0]
theorem g0_X10_ok : ∀ j, j < 2 → defaultValue (tyX10 j) = vp_V g0_X10 j := by
  intro j hj
  match j, hj with
  | 0, _ => rfl
  | 1, _ => rfl
  | k + 2, h => exact absurd h (by omega)
theorem gcl6 : gCl[6]? = some (RX7, TX7, 3) := rfl
def g0_X7 : List Value := [.null, .null, .int 0]
theorem g0_X7_ok : ∀ j, j < 3 → defaultValue (tyX7 j) = vp_V g0_X7 j := by
  intro j hj
  match j, hj with
  | 0, _ => rfl
  | 1, _ => rfl
  | 2, _ => rfl
  | k + 3, h => exact absurd h (by omega)
theorem gcl7 : gCl[7]? = some (RX3, TX3, 9) := rfl
def g0_X3 : List Value := [.null, .null, .null, .null, .null, .null, .null, .int 0, .int 0]
theorem g0_X3_ok : ∀ j, j < 9 → defaultValue (tyX3 j) = vp_V g0_X3 j := by
  intro j hj
  match j, hj with
  | 0, _ => rfl
  | 1, _ => rfl
  | 2, _ => rfl
  | 3, _ => rfl
  | 4, _ => rfl
  | 5, _ => rfl
  | 6, _ => rfl
  | 7, _ => rfl
  | 8, _ => rfl
  | k + 9, h => exact absurd h (by omega)
theorem gcl8 : gCl[8]? = some (RX11, TX11, 5) := rfl
def g0_X11 : List Value := [.int 0, .int 0, .null, .null, .null]
theorem g0_X11_ok : ∀ j, j < 5 → defaultValue (tyX11 j) = vp_V g0_X11 j := by
  intro j hj
  match j, hj with
  | 0, _ => rfl
  | 1, _ => rfl
  | 2, _ => rfl
  | 3, _ => rfl
  | 4, _ => rfl
  | k + 5, h => exact absurd h (by omega)
theorem gcl9 : gCl[9]? = some (RX6, TX6, 13) := rfl
def g0_X6 : List Value := [.null, .null, .null, .int 0, .null, .int 0, .int 0, .int 0, .null, .int 0, .int 0, .null, .long 0]
theorem g0_X6_ok : ∀ j, j < 13 → defaultValue (tyX6 j) = vp_V g0_X6 j := by
  intro j hj
  match j, hj with
  | 0, _ => rfl
  | 1, _ => rfl
  | 2, _ => rfl
  | 3, _ => rfl
  | 4, _ => rfl
  | 5, _ => rfl
  | 6, _ => rfl
  | 7, _ => rfl
  | 8, _ => rfl
  | 9, _ => rfl
  | 10, _ => rfl
  | 11, _ => rfl
  | 12, _ => rfl
  | k + 13, h => exact absurd h (by omega)
theorem gcl10 : gCl[10]? = some (RJ2, TJ2, 12) := rfl
def g0_J2 : List Value := [.null, .null, .int 0, .int 0, .int 0, .float 0, .null, .null, .null, .null, .int 0, .int 0]
theorem g0_J2_ok : ∀ j, j < 12 → defaultValue (tyJ2 j) = vp_V g0_J2 j := by
  intro j hj
  match j, hj with
  | 0, _ => rfl
  | 1, _ => rfl
  | 2, _ => rfl
  | 3, _ => rfl
  | 4, _ => rfl
  | 5, _ => rfl
  | 6, _ => rfl
  | 7, _ => rfl
  | 8, _ => rfl
  | 9, _ => rfl
  | 10, _ => rfl
  | 11, _ => rfl
  | k + 12, h => exact absurd h (by omega)
theorem gcl11 : gCl[11]? = some (RJ19, TJ19, 6) := rfl
def g0_J19 : List Value := [.int 0, .null, .null, .null, .null, .null]
theorem g0_J19_ok : ∀ j, j < 6 → defaultValue (tyJ19 j) = vp_V g0_J19 j := by
  intro j hj
  match j, hj with
  | 0, _ => rfl
  | 1, _ => rfl
  | 2, _ => rfl
  | 3, _ => rfl
  | 4, _ => rfl
  | 5, _ => rfl
  | k + 6, h => exact absurd h (by omega)
theorem gcl12 : gCl[12]? = some (RJ28, TJ28, 1) := rfl
def g0_J28 : List Value := [.null]
theorem g0_J28_ok : ∀ j, j < 1 → defaultValue (tyJ28 j) = vp_V g0_J28 j := by
  intro j hj
  match j, hj with
  | 0, _ => rfl
  | k + 1, h => exact absurd h (by omega)
theorem gcl13 : gCl[13]? = some (RJ25, TJ25, 3) := rfl
def g0_J25 : List Value := [.int 0, .null, .int 0]
theorem g0_J25_ok : ∀ j, j < 3 → defaultValue (tyJ25 j) = vp_V g0_J25 j := by
  intro j hj
  match j, hj with
  | 0, _ => rfl
  | 1, _ => rfl
  | 2, _ => rfl
  | k + 3, h => exact absurd h (by omega)
theorem gcl14 : gCl[14]? = some (RJ37, TJ37, 5) := rfl
def g0_J37 : List Value := [.null, .null, .int 0, .int 0, .null]
theorem g0_J37_ok : ∀ j, j < 5 → defaultValue (tyJ37 j) = vp_V g0_J37 j := by
  intro j hj
  match j, hj with
  | 0, _ => rfl
  | 1, _ => rfl
  | 2, _ => rfl
  | 3, _ => rfl
  | 4, _ => rfl
  | k + 5, h => exact absurd h (by omega)
theorem gcl15 : gCl[15]? = some (RJ33, TJ33, 2) := rfl
def g0_J33 : List Value := [.int 0, .null]
theorem g0_J33_ok : ∀ j, j < 2 → defaultValue (tyJ33 j) = vp_V g0_J33 j := by
  intro j hj
  match j, hj with
  | 0, _ => rfl
  | 1, _ => rfl
  | k + 2, h => exact absurd h (by omega)
theorem gcl16 : gCl[16]? = some (RJ4, TJ4, 4) := rfl
def g0_J4 : List Value := [.null, .int 0, .int 0, .int 0]
theorem g0_J4_ok : ∀ j, j < 4 → defaultValue (tyJ4 j) = vp_V g0_J4 j := by
  intro j hj
  match j, hj with
  | 0, _ => rfl
  | 1, _ => rfl
  | 2, _ => rfl
  | 3, _ => rfl
  | k + 4, h => exact absurd h (by omega)
theorem gcl17 : gCl[17]? = some (RJ13, TJ13, 4) := rfl
def g0_J13 : List Value := [.null, .int 0, .int 0, .int 0]
theorem g0_J13_ok : ∀ j, j < 4 → defaultValue (tyJ13 j) = vp_V g0_J13 j := by
  intro j hj
  match j, hj with
  | 0, _ => rfl
  | 1, _ => rfl
  | 2, _ => rfl
  | 3, _ => rfl
  | k + 4, h => exact absurd h (by omega)
/-- statics that are references: class, field, descriptor, place in the table of constants -/
def gZrL : List (String × String × String × Nat) := [("PageGarden$State", "WILD", "LPageGarden$State;", 0), ("PageGarden$State", "USED", "LPageGarden$State;", 1), ("PageGarden$State", "FREED", "LPageGarden$State;", 2), ("java/util/HashSet", "PRESENT", "Ljava/lang/Object;", 3), ("java/util/ArrayList", "DEFAULTCAPACITY_EMPTY_ELEMENTDATA", "[Ljava/lang/Object;", 4)]
def gZiL : List (String × String × String × Int32) := [("java/lang/String", "COMPACT_STRINGS", "Z", 1)]
def gStrL : List (String × Nat × String × Nat) := [("PageGarden", 19, "put", 10), ("PageGarden", 25, "drop", 11), ("PageGarden", 27, "commit", 12), ("PageGarden", 29, "close", 13), ("PageGarden", 31, "begin", 14), ("PageGarden", 33, "abort", 15), ("PageGarden", 35, "open", 16), ("PageGarden", 134, "what", 17), ("PageGarden", 171, "rank", 18), ("PageGarden", 183, "root", 19), ("PageGarden", 193, "bed", 20), ("PageGarden", 221, "byte", 21), ("PageGarden", 223, "command text", 22), ("PageGarden", 244, "nothing saved", 23), ("PageGarden$Garden", 104, "no leaf", 24), ("PageGarden$Garden", 111, "no directory", 25), ("PageGarden$Garden", 181, "no bed", 26), ("PageGarden$Garden", 219, "no draft", 27), ("PageGarden$Garden", 221, "there is a draft", 28), ("PageGarden$Garden", 269, "key", 29), ("PageGarden$Garden", 285, "value", 30), ("PageGarden$Garden", 290, "it cannot be done", 31), ("PageGarden$Garden", 318, "no such key, or no bed", 32), ("PageGarden$Garden", 348, "steps", 33), ("PageGarden$Garden", 356, "reader", 34), ("PageGarden$Garden", 361, "it is not open", 35), ("PageGarden$Garden", 363, "all are open", 36), ("PageGarden$Text", 19, "", 37)]
def gObjL : List (String × Nat) := [("PageGarden$State$1", 0), ("PageGarden$State$2", 1), ("PageGarden$State$3", 2)]
def gOfL : List (String × String × String × Int32 × Nat) := [("java/lang/Enum", "ordinal", "I", 0, 0), ("java/lang/Enum", "ordinal", "I", 1, 1), ("java/lang/Enum", "ordinal", "I", 2, 2)]
def gNcL : List (String × String) := [("java/lang/IllegalStateException", "java/lang/IllegalArgumentException"), ("java/lang/IllegalStateException", "java/lang/IndexOutOfBoundsException"), ("java/lang/IllegalArgumentException", "java/lang/IndexOutOfBoundsException"), ("java/util/LinkedHashMap$Entry", "java/util/HashMap$TreeNode"), ("PageGarden$Leaf", "PageGarden$Directory"), ("PageGarden$Directory", "PageGarden$Leaf")]
def gNeL : List Nat := [0, 1, 2]
/-! THE PURE HEAP AND THE JUDGEMENT OVER IT. gS: cells by address, the next address, the slots used. A method's pure function works on gS; its walk is a gCT. -/
abbrev gC : Type := (Nat × vp_A) ⊕ (Nat × List Value)
abbrev gS : Type := (Nat → Option gC) × Nat × Nat
abbrev gK : Type := Nat × (Nat → Option Nat)
abbrev gE : Type := Launch × State × Nat × va_G × (Nat → ClassId) × gK
abbrev gM : Type := String × ByteArray × Nat × Option FieldType × String × List ExceptionTableEntry × Nat × Nat × Nat × Nat × Nat
abbrev gV : Type := Int32 ⊕ Int64 ⊕ UInt32 ⊕ Option Nat
abbrev ge_l (E : gE) : Launch := E.1
abbrev ge_s (E : gE) : State := E.2.1
abbrev ge_b (E : gE) : Nat := E.2.2.1
abbrev ge_D (E : gE) : va_G := E.2.2.2.1
abbrev ge_A (E : gE) : Nat → ClassId := E.2.2.2.2.1
abbrev gk (E : gE) : gK := E.2.2.2.2.2
abbrev gm_own (M : gM) : String := M.1
abbrev gm_cc (M : gM) : ByteArray := M.2.1
abbrev gm_nL (M : gM) : Nat := M.2.2.1
abbrev gm_ret (M : gM) : Option FieldType := M.2.2.2.1
abbrev gm_ini (M : gM) : String := M.2.2.2.2.1
abbrev gm_xt (M : gM) : List ExceptionTableEntry := M.2.2.2.2.2.1
abbrev gm_d (M : gM) : Nat := M.2.2.2.2.2.2.1
abbrev gm_z0 (M : gM) : Nat := M.2.2.2.2.2.2.2.1
abbrev gm_n0 (M : gM) : Nat := M.2.2.2.2.2.2.2.2.1
abbrev gm_zf (M : gM) : Nat := M.2.2.2.2.2.2.2.2.2.1
abbrev gm_nf (M : gM) : Nat := M.2.2.2.2.2.2.2.2.2.2
abbrev vI (x : Int32) : gV := .inl x
abbrev vJ (x : Int64) : gV := .inr (.inl x)
abbrev vF (x : UInt32) : gV := .inr (.inr (.inl x))
abbrev vR (r : Option Nat) : gV := .inr (.inr (.inr r))
def gv (v : gV) : Value := match v with
  | .inl x => .int x
  | .inr (.inl x) => .long x
  | .inr (.inr (.inl x)) => .float x
  | .inr (.inr (.inr r)) => va_rf r
def gc2 (v : gV) : Bool := match v with
  | .inr (.inl _) => true
  | _ => false
def gcat (v : gV) : Nat := match v with
  | .inr (.inl _) => 2
  | _ => 1
theorem gv_cat (v : gV) : (gv v).category = gcat v := by
  match v with
  | .inl _ => rfl
  | .inr (.inl _) => rfl
  | .inr (.inr (.inl _)) => rfl
  | .inr (.inr (.inr none)) => rfl
  | .inr (.inr (.inr (some _))) => rfl
theorem gv_c2 (v : gV) : ((gv v).category == 2) = gc2 v := by
  rw [gv_cat]
  match v with
  | .inl _ => rfl
  | .inr (.inl _) => rfl
  | .inr (.inr (.inl _)) => rfl
  | .inr (.inr (.inr _)) => rfl
def gSum (l : List gV) : Nat := (l.map gcat).sum
theorem gSum_eq (l : List gV) : ((l.map gv).map fun v => v.category).sum = gSum l := by
  unfold gSum
  rw [List.map_map]
  congr 1
  apply List.map_congr_left
  intro v _
  exact gv_cat v
def gL (L : List (Nat × gV)) : List (Nat × Value) := L.map fun q => (q.1, gv q.2)
theorem gL_at {L : List (Nat × gV)} {j i : Nat} {v : gV} (h : L[j]? = some (i, v)) : (gL L)[j]? = some (i, gv v) := by
  unfold gL
  rw [List.getElem?_map, h]
  rfl
def gst1 (i : Nat) (v : gV) (L : List (Nat × gV)) : List (Nat × gV) := (i, v) :: L.filter (fun q => !(q.1 == i) && !(q.1 + 1 == i && gc2 q.2))
def gst2 (i : Nat) (v : gV) (L : List (Nat × gV)) : List (Nat × gV) := (i, v) :: L.filter (fun q => !(q.1 == i) && (!(q.1 == i + 1) && !(q.1 + 1 == i && gc2 q.2)))
theorem gL_st1 (i : Nat) (v : gV) (L : List (Nat × gV)) : (i, gv v) :: (gL L).filter (fun q => !(q.1 == i) && !(q.1 + 1 == i && q.2.category == 2)) = gL (gst1 i v L) := by
  unfold gL gst1
  rw [List.map_cons, List.filter_map]
  congr 3
  funext q
  simp only [Function.comp_apply, gv_c2]
theorem gL_st2 (i : Nat) (v : gV) (L : List (Nat × gV)) : (i, gv v) :: (gL L).filter (fun q => !(q.1 == i) && (!(q.1 == i + 1) && !(q.1 + 1 == i && q.2.category == 2))) = gL (gst2 i v L) := by
  unfold gL gst2
  rw [List.map_cons, List.filter_map]
  congr 3
  funext q
  simp only [Function.comp_apply, gv_c2]
def gArgs : Nat → List gV → List (Nat × gV)
  | _, [] => []
  | i, v :: vs => (i, v) :: gArgs (i + gcat v) vs
theorem gArgs_eq : ∀ (vs : List gV) (i : Nat), lv_args i (vs.map gv) = gL (gArgs i vs)
  | [], _ => rfl
  | v :: vs, i => by
    show (i, gv v) :: lv_args _ _ = (i, gv v) :: gL _
    rw [gv_cat, gArgs_eq vs]
    congr 3
    match v with
    | .inl _ => rfl
    | .inr (.inl _) => rfl
    | .inr (.inr (.inl _)) => rfl
    | .inr (.inr (.inr _)) => rfl
/-- the places of a row of values -/
def g_val (x : vp_A) (j : Nat) : Value := match x.2 with
  | .inl f => .int (f j)
  | .inr (.inl f) => .long (f j)
  | .inr (.inr (.inl f)) => .float (f j)
  | .inr (.inr (.inr (.inl f))) => .double (f j)
  | .inr (.inr (.inr (.inr f))) => va_rf (f j)
def gTyL : List FieldType := [.int, .long, .byte, .object "PageGarden$Bed", .object "PageGarden$State", .object "PageGarden$Root", .object "PageGarden$Reader", .object "java/util/HashMap$Node", .object "java/lang/Object"]
def gTys (dA : Nat → ClassId) : List (ClassId × FieldType) := [(dA 0, .int), (dA 1, .long), (dA 2, .byte), (dA 3, .object "PageGarden$Bed"), (dA 4, .object "PageGarden$State"), (dA 5, .object "PageGarden$Root"), (dA 6, .object "PageGarden$Reader"), (dA 7, .object "java/util/HashMap$Node"), (dA 8, .object "java/lang/Object")]
def g_vm (base a : Nat) (cell : Cell) : Prop := cell.vm ≠ .unknown ∧ (∀ k, cell.vm ≠ .statics k) ∧ (base ≤ a → cell.vm = .none)
def g_at (E : gE) (a : Nat) (c : gC) (H : Heap) : Prop := ∃ cell : Cell, H[a]? = some cell ∧ g_vm (ge_s E).heap.size a cell ∧ match c with
  | .inl q => cell.cls = ge_A E q.1 ∧ q.2.1 ≤ cell.slots.size ∧ cell.slots.size.toInt32 = Int32.ofNat q.2.1 ∧ (∀ j, j < q.2.1 → cell.slots[j]? = some (g_val q.2 j)) ∧ ((ge_s E).heap.size ≤ a → cell = vp_cell (ge_A E q.1) q.2)
  | .inr o => (∃ r, gCl[o.1]? = some r ∧ cell.cls = (ge_D E).1 o.1 ∧ ∀ k, k < r.2.2 → cell.slots[(ge_D E).2 o.1 k]? = some (vp_V o.2 k)) ∨ (gCl[o.1]? = none ∧ cell = ({ cls := ge_A E o.1, slots := o.2.toArray, vm := .none } : Cell))
theorem vp_cell_g (cA : ClassId) (x : vp_A) : vp_cell cA x = arrV cA x.1 (g_val x) := by
  obtain ⟨n, f | f | f | f | f⟩ := x <;> rfl
theorem g_at.kept {E : gE} {a : Nat} {c : gC} {H H1 : Heap} (h : g_at E a c H) (hq : H1[a]? = H[a]?) : g_at E a c H1 := by
  obtain ⟨cell, h1, h2⟩ := h
  exact ⟨cell, by rw [hq]; exact h1, h2⟩
theorem g_at.lt {E : gE} {a : Nat} {c : gC} {H : Heap} (h : g_at E a c H) : a < H.size := by
  obtain ⟨cell, h1, -⟩ := h
  exact (Array.getElem?_eq_some_iff.mp h1).1
def gRel (E : gE) (σ : gS) (H : Heap) : Prop := H.size = σ.2.1 ∧ (∀ q, q < (ge_s E).heap.size → H[q]? = (ge_s E).heap[q]?) ∧ (ge_s E).heap.size ≤ H.size ∧ ∀ (a : Nat) (c : gC), σ.1 a = some c → g_at E a c H
theorem g_obj {E : gE} {σ : gS} {H : Heap} {a ci : Nat} {fs : List Value} {q : String × u_T × Nat} (hr : gRel E σ H) (ha : σ.1 a = some (.inr (ci, fs))) (hcl : gCl[ci]? = some q) : ∃ cell : Cell, H[a]? = some cell ∧ g_vm (ge_s E).heap.size a cell ∧ ∃ r, gCl[ci]? = some r ∧ cell.cls = (ge_D E).1 ci ∧ ∀ k, k < r.2.2 → cell.slots[(ge_D E).2 ci k]? = some (vp_V fs k) := by
  obtain ⟨cell, h1, h2, h3⟩ := hr.2.2.2 a _ ha
  rcases h3 with h3 | ⟨h3, -⟩
  · exact ⟨cell, h1, h2, h3⟩
  · rw [hcl] at h3; cases h3
def gup (σ : gS) (a : Nat) (c : gC) : gS := (fun b => if b = a then some c else σ.1 b, σ.2)
def gpush (σ : gS) (c : gC) (n : Nat) : gS := (fun b => if b = σ.2.1 then some c else σ.1 b, σ.2.1 + 1, σ.2.2 + n)
theorem gRel.up {E : gE} {σ : gS} {H H1 : Heap} (h : gRel E σ H) {a : Nat} {c : gC} (hz : H1.size = H.size) (ho : ∀ q, q ≠ a → H1[q]? = H[q]?) (ha : (ge_s E).heap.size ≤ a) (hc : g_at E a c H1) : gRel E (gup σ a c) H1 := by
  refine ⟨hz.trans h.1, fun q hq => by rw [ho q (by omega)]; exact h.2.1 q hq, by rw [hz]; exact h.2.2.1, fun b d hb => ?_⟩
  by_cases e : b = a
  · subst e
    simp only [gup, if_true] at hb
    cases hb
    exact hc
  · simp only [gup, if_neg e] at hb
    exact (h.2.2.2 b d hb).kept (ho b e)
theorem gRel.push {E : gE} {σ : gS} {H H1 : Heap} (h : gRel E σ H) {c : gC} {n : Nat} (hz : H1.size = H.size + 1) (ho : ∀ q, q < H.size → H1[q]? = H[q]?) (hc : g_at E H.size c H1) : gRel E (gpush σ c n) H1 := by
  refine ⟨by rw [hz, h.1]; rfl, fun q hq => by rw [ho q (Nat.lt_of_lt_of_le hq h.2.2.1)]; exact h.2.1 q hq, by rw [hz]; have := h.2.2.1; omega, fun b d hb => ?_⟩
  by_cases e : b = σ.2.1
  · subst e
    simp only [gpush, if_true] at hb
    cases hb
    rw [← h.1]
    exact hc
  · simp only [gpush, if_neg e] at hb
    have h9 := h.2.2.2 b d hb
    exact h9.kept (ho b h9.lt)
/-- what the start gives beside the words: constants, strings, what can't be cast -/
def gZr (E : gE) (C n d : String) (i : Nat) : Prop := va_Z C n d (va_rf ((gk E).2 i)) (fun q => (ge_s E).heap.size ≤ q) (ge_s E) (ge_s E).heap
def gZi (E : gE) (C n d : String) (v : Int32) : Prop := va_Z C n d (.int v) (fun q => (ge_s E).heap.size ≤ q) (ge_s E) (ge_s E).heap
def gStr (E : gE) (own : String) (k : Nat) (tx : String) (i : Nat) : Prop := ∃ a : Nat, (gk E).2 i = some a ∧ vk_R own k tx a (ge_s E)
def gObj (E : gE) (C : String) (i : Nat) : Prop := ∃ a : Nat, (gk E).2 i = some a ∧ va_O C a (fun q => (ge_s E).heap.size ≤ q) (ge_s E) (ge_s E).heap
def gOF (E : gE) (o n d : String) (v : Int32) (i : Nat) : Prop := ∃ a : Nat, (gk E).2 i = some a ∧ va_OF o n d (.int v) a (fun q => (ge_s E).heap.size ≤ q) (ge_s E) (ge_s E).heap
/-- the two call sites that make function objects -/
def lsh0 : Lambda.Shape := { iface := "PageGarden$Lookup", name := "of", sam := ⟨[.int], some .int⟩, captured := [.object "PageGarden$Garden", .int], kind := 5, implClass := "PageGarden$Garden", implName := "lambda$changedSince$0", implDesc := ⟨[.int, .int], some .int⟩, implItf := false, inst := ⟨[.int], some .int⟩ }
def lsh1 : Lambda.Shape := { iface := "PageGarden$Lookup", name := "of", sam := ⟨[.int], some .int⟩, captured := [.object "PageGarden$Garden"], kind := 5, implClass := "PageGarden$Garden", implName := "lambda$changedSince$1", implDesc := ⟨[.int], some .int⟩, implItf := false, inst := ⟨[.int], some .int⟩ }
def lcs : MethodName := ⟨"PageGarden$Garden", "changedSince", "(I)I"⟩
def gLam (E : gE) : Prop := (ge_s E).lambdaAt? lcs 12 393 lsh0 = some (ge_A E 100, none) ∧ (ge_s E).lambdaAt? lcs 18 397 lsh1 = some (ge_A E 101, none)
def gEnv (E : gE) : Prop := (∀ w ∈ lw_tbl, w.before #[Value.ref (ge_b E)] (ge_s E) = true) ∧ va_K (ge_D E) gCl (gTys (ge_A E)) (ge_s E) ∧ (ge_l E).stackTraces = false ∧ (gk E).1 = (ge_s E).heap.size ∧
  (∀ q ∈ gZrL, gZr E q.1 q.2.1 q.2.2.1 q.2.2.2) ∧ (∀ q ∈ gZiL, gZi E q.1 q.2.1 q.2.2.1 q.2.2.2) ∧ (∀ q ∈ gStrL, gStr E q.1 q.2.1 q.2.2.1 q.2.2.2) ∧ (∀ q ∈ gObjL, gObj E q.1 q.2) ∧ (∀ q ∈ gNcL, va_Nc q.1 q.2 (ge_s E)) ∧
  (∀ i j, i ∈ gNeL → j ∈ gNeL → (gk E).2 i = (gk E).2 j → i = j) ∧
  vx_Zq Bundle.tN "UNASSIGNED_STACK" Bundle.steD (fun q => (ge_s E).heap.size ≤ q) (ge_s E) (ge_s E).heap ∧ vx_Zq Bundle.tN "SUPPRESSED_SENTINEL" Bundle.listD (fun q => (ge_s E).heap.size ≤ q) (ge_s E) (ge_s E).heap ∧ (∀ q ∈ gOfL, gOF E q.1 q.2.1 q.2.2.1 q.2.2.2.1 q.2.2.2.2) ∧ gLam E
/-- the one method whose name a row asks for -/
def gNm (M : gM) (s : State) (m : MethodId) : Prop := gm_ini M = "changedSince" → gm_own M = "PageGarden$Garden" → s.methodNamed? lcs = some m
def gNy (y : MethodName) : Prop := y.name = "changedSince" → y.cls = "PageGarden$Garden" → y.desc = "(I)I"
theorem gNm_of {M : gM} {s : State} {m : MethodId} {y : MethodName} (hM : gm_ini M = y.name) (hM2 : gm_own M = y.cls) (hn : gNy y) (h : s.methodNamed? y = some m) : gNm M s m := fun h1 h2 => by
  have e1 := hM.symm.trans h1
  have e2 := hM2.symm.trans h2
  have e3 := hn e1 e2
  have : y = lcs := by
    obtain ⟨a, b, c⟩ := y
    simp only at e1 e2 e3
    rw [e1, e2, e3]
    rfl
  rw [← this]; exact h
def gCtx (E : gE) (M : gM) (p : Program) (s : State) (m : MethodId) (args : Array Value) (meth : Method) (c : Code) (R : Room) : Prop :=
  p.tables.exec = Jvm.exec ∧ c.code = gm_cc M ∧ c.maxLocals = gm_nL M ∧ s.vm.findClass (gm_own M) = some m.cls ∧ (∀ w ∈ lw_all, w.before args s = true) ∧ meth.locks = false ∧ meth.sig.returnType = gm_ret M ∧ meth.name = gm_ini M ∧ c.exceptionTable.toList = gm_xt M ∧ (ge_s E).WarmedH s.vm ∧
  gm_d M ≤ R.frames ∧ 100 * gm_d M ≤ R.locals ∧ gm_zf M = gm_z0 M + R.cells ∧ gm_nf M = gm_n0 M + R.slots ∧ (∀ q, q < (ge_s E).heap.size → s.heap[q]? = (ge_s E).heap[q]?) ∧ gNm M s m
abbrev gQ : Type := List Frame → Array Value → State → State → Prop
def gW (E : gE) (M : gM) (Q : gQ) (pc : Nat) (L : List (Nat × gV)) (st : List gV) (σ : gS) : Prop :=
  σ.2.1 ≤ gm_zf M ∧ σ.2.2 ≤ gm_nf M ∧ (gEnv E → ∀ (p : Program) (e : Env) (s : State) (m : MethodId) (args : Array Value) (below : List Frame) (meth : Method) (c : Code) (R : Room), gCtx E M p s m args meth c R →
    ∀ (H : Heap) (locs : List Loc) (k n : Nat) (ls : Array Slot), gRel E σ H → σ.2.1 = gm_z0 M + k → σ.2.2 = gm_n0 M + n → (∀ z ∈ locs, (ge_s E).heap.size ≤ z.base) → lv_has ls (gm_nL M) (gL L) →
      W p (ge_l E) e R s m args below meth c H locs k n (Q below args s) (F0 m pc ls (st.map gv)))
/-- an exception q of the class C is on its way at pc -/
def gX (E : gE) (M : gM) (Q : gQ) (pc : Nat) (L : List (Nat × gV)) (σ : gS) (C : String) : Prop :=
  σ.2.1 ≤ gm_zf M ∧ σ.2.2 ≤ gm_nf M ∧ (gEnv E → ∀ (p : Program) (e : Env) (s : State) (m : MethodId) (args : Array Value) (below : List Frame) (meth : Method) (c : Code) (R : Room), gCtx E M p s m args meth c R →
    ∀ (H : Heap) (locs : List Loc) (k n : Nat) (ls : Array Slot) (rest : List Value) (q : Addr) (ce : Cell), gRel E σ H → σ.2.1 = gm_z0 M + k → σ.2.2 = gm_n0 M + n → (∀ z ∈ locs, (ge_s E).heap.size ≤ z.base) → lv_has ls (gm_nL M) (gL L) →
      H[q]? = some ce → ce.vm = .none → s.vm.findClass C = some ce.cls →
      vx_W p (ge_l E) e R s m args below meth c H locs k n (Q below args s) (F0 m pc ls rest) q)
abbrev gOut : Type := Option gV ⊕ String
def gQc (E : gE) (out : gOut) (σ' : gS) : Array Value → State → Outcome → State → Prop := fun _ _ o t => ∃ v : Option gV, out = .inl v ∧ o = .returned (v.map gv) ∧ gRel E σ' t.heap
def gXC (E : gE) (out : gOut) (σ' : gS) : String → State → State → Prop := fun C _ t => out = .inr C ∧ gRel E σ' t.heap
def gFree (E : gE) : Addr → Prop := fun q => (ge_s E).heap.size ≤ q
def gQM (E : gE) (mc ms : Nat) (out : gOut) (σ' : gS) : gQ := fun below args s => vx_MQ below (gQc E out σ') (gXC E out σ') args s mc ms (gFree E)
def gRm (d mc ms : Nat) : Room := { frames := d, cells := mc, slots := ms, locals := 100 * d }
def gPc (E : gE) (args : List gV) (σ : gS) : Array Value → State → Prop := va_Pc (args.map gv) (fun U => (ge_s E).WarmedH U.vm ∧ gRel E σ U.heap)
def gCT (E : gE) (d : Nat) (y : MethodName) (ws : List Cond) (args : List gV) (σ : gS) (out : gOut) (σ' : gS) : Prop :=
  σ.2.1 ≤ σ'.2.1 ∧ σ.2.2 ≤ σ'.2.2 ∧ (gEnv E → vx_Met (ge_l E) y ws (gRm d (σ'.2.1 - σ.2.1) (σ'.2.2 - σ.2.2)) (gPc E args σ) (gQc E out σ') (gXC E out σ') (σ'.2.1 - σ.2.1) (σ'.2.2 - σ.2.2) (gFree E))
theorem gPc.blind {E : gE} {args : List gV} {σ : gS} : FrameBlind (gPc E args σ) := fun a U g mk h => h
/-- the pure functions' own steps -/
def gB1 {α β : Type} (o : Option α) (f : α → Option β) : Option β := match o with
  | some a => f a
  | none => none
def gB2 {α β : Type} (o : Option (α × gS)) (f : α → gS → Option β) : Option β := match o with
  | some x => f x.1 x.2
  | none => none
theorem gB1_some {α β : Type} {o : Option α} {f : α → Option β} {z : β} (h : gB1 o f = some z) : ∃ a, o = some a ∧ f a = some z := by
  cases o with
  | none => cases h
  | some a => exact ⟨a, rfl, h⟩
theorem gB2_some {α β : Type} {o : Option (α × gS)} {f : α → gS → Option β} {z : β} (h : gB2 o f = some z) : ∃ a s, o = some (a, s) ∧ f a s = some z := by
  cases o with
  | none => cases h
  | some x => exact ⟨x.1, x.2, rfl, h⟩
theorem gB1_eq {α β : Type} {o : Option α} {f : α → Option β} {a : α} (h : o = some a) : gB1 o f = f a := by rw [h]; rfl
theorem gB2_eq {α β : Type} {o : Option (α × gS)} {f : α → gS → Option β} {a : α} {s : gS} (h : o = some (a, s)) : gB2 o f = f a s := by rw [h]; rfl
def gfv (σ : gS) (r : Option Nat) (ci k : Nat) : Option Value := match r with
  | none => none
  | some a => match σ.1 a with
    | some (.inr o) => if o.1 = ci then o.2[k]? else none
    | _ => none
theorem gfv_spec {σ : gS} {r : Option Nat} {ci k : Nat} {v : Value} (h : gfv σ r ci k = some v) : ∃ a fs, r = some a ∧ σ.1 a = some (.inr (ci, fs)) ∧ fs[k]? = some v := by
  cases r with
  | none => cases h
  | some a =>
    simp only [gfv] at h
    split at h
    · rename_i o ho
      split at h
      · rename_i e
        exact ⟨a, o.2, rfl, by rw [ho, ← e], h⟩
      · cases h
    · cases h
theorem gfv_eq {σ : gS} {a ci k : Nat} {fs : List Value} (h : σ.1 a = some (.inr (ci, fs))) : gfv σ (some a) ci k = fs[k]? := by
  simp only [gfv, h, if_true]
def gfI (σ : gS) (r : Option Nat) (ci k : Nat) : Option Int32 := match gfv σ r ci k with
  | some (.int x) => some x
  | _ => none
def gfJ (σ : gS) (r : Option Nat) (ci k : Nat) : Option Int64 := match gfv σ r ci k with
  | some (.long x) => some x
  | _ => none
def gfF (σ : gS) (r : Option Nat) (ci k : Nat) : Option UInt32 := match gfv σ r ci k with
  | some (.float x) => some x
  | _ => none
def gfR (σ : gS) (r : Option Nat) (ci k : Nat) : Option (Option Nat) := match gfv σ r ci k with
  | some (.ref x) => some (some x)
  | some .null => some none
  | _ => none
theorem gfI_spec {σ : gS} {r : Option Nat} {ci k : Nat} {x : Int32} (h : gfI σ r ci k = some x) : gfv σ r ci k = some (gv (vI x)) := by
  unfold gfI at h
  split at h
  · rename_i e; cases h; exact e
  · cases h
theorem gfJ_spec {σ : gS} {r : Option Nat} {ci k : Nat} {x : Int64} (h : gfJ σ r ci k = some x) : gfv σ r ci k = some (gv (vJ x)) := by
  unfold gfJ at h
  split at h
  · rename_i e; cases h; exact e
  · cases h
theorem gfF_spec {σ : gS} {r : Option Nat} {ci k : Nat} {x : UInt32} (h : gfF σ r ci k = some x) : gfv σ r ci k = some (gv (vF x)) := by
  unfold gfF at h
  split at h
  · rename_i e; cases h; exact e
  · cases h
theorem gfR_spec {σ : gS} {r : Option Nat} {ci k : Nat} {x : Option Nat} (h : gfR σ r ci k = some x) : gfv σ r ci k = some (gv (vR x)) := by
  unfold gfR at h
  split at h
  · rename_i e; cases h; exact e
  · rename_i e; cases h; exact e
  · cases h
/-- a field is written: of a cell made since the law's start -/
def gpf (κ : gK) (σ : gS) (r : Option Nat) (ci k : Nat) (v : Value) : Option gS := match r with
  | none => none
  | some a => match σ.1 a with
    | some (.inr o) => if o.1 = ci ∧ k < o.2.length ∧ κ.1 ≤ a then some (gup σ a (.inr (ci, o.2.set k v))) else none
    | _ => none
theorem gpf_spec {κ : gK} {σ σ1 : gS} {r : Option Nat} {ci k : Nat} {v : Value} (h : gpf κ σ r ci k v = some σ1) : ∃ a fs, r = some a ∧ σ.1 a = some (.inr (ci, fs)) ∧ k < fs.length ∧ κ.1 ≤ a ∧ σ1 = gup σ a (.inr (ci, fs.set k v)) := by
  cases r with
  | none => cases h
  | some a =>
    simp only [gpf] at h
    split at h
    · rename_i o ho
      split at h
      · rename_i e
        obtain ⟨e1, e2, e3⟩ := e
        cases h
        exact ⟨a, o.2, rfl, by rw [ho, ← e1], e2, e3, rfl⟩
      · cases h
    · cases h
theorem gpf_eq {κ : gK} {σ : gS} {a ci k : Nat} {v : Value} {fs : List Value} (h : σ.1 a = some (.inr (ci, fs))) (hk : k < fs.length) (ha : κ.1 ≤ a) : gpf κ σ (some a) ci k v = some (gup σ a (.inr (ci, fs.set k v))) := by
  simp only [gpf, h]
  rw [if_pos ⟨trivial, hk, ha⟩]
def gck (σ : gS) (r : Option Nat) (ci : Nat) : Option Unit := match r with
  | none => none
  | some a => match σ.1 a with
    | some (.inr o) => if o.1 = ci then some () else none
    | _ => none
theorem gck_spec {σ : gS} {r : Option Nat} {ci : Nat} {x : Unit} (h : gck σ r ci = some x) : ∃ a fs, r = some a ∧ σ.1 a = some (.inr (ci, fs)) := by
  cases r with
  | none => cases h
  | some a =>
    simp only [gck] at h
    split at h
    · rename_i o ho
      split at h
      · rename_i e
        exact ⟨a, o.2, rfl, by rw [ho, ← e]⟩
      · cases h
    · cases h
theorem gck_eq {σ : gS} {a ci : Nat} {fs : List Value} (h : σ.1 a = some (.inr (ci, fs))) : gck σ (some a) ci = some () := by
  simp only [gck, h, if_true]
def gnw (σ : gS) (ci : Nat) (fs : List Value) (n : Nat) : Option (Option Nat × gS) := some (some σ.2.1, gpush σ (.inr (ci, fs)) n)
def gin (i : Int32) (n : Nat) : Prop := ¬ (i < 0 ∨ n ≤ i.toNatClampNeg)
theorem g_objAt {E : gE} {σ : gS} {i b : Nat} {C : String} {s : State} {H : Heap} (hE : gEnv E) (hW : (ge_s E).WarmedH s.vm) (hm : (C, i) ∈ gObjL) (hb : (gk E).2 i = some b) (hr : gRel E σ H) : ∃ cell : Cell, H[b]? = some cell ∧ cell.vm.isStatics = false ∧ s.vm.findClass C = some cell.cls := by
  obtain ⟨a, h1, cell, h2, h3, h4, h5⟩ := hE.2.2.2.2.2.2.2.1 _ hm
  cases h1.symm.trans hb
  exact ⟨cell, by rw [hr.2.1 _ (Nat.lt_of_not_le h5)]; exact h2, h3, by rw [(State.WarmedH.alike hW).findClass]; exact h4⟩
/-! THE ROWS over the pure heap: locals, stack, fields, objects, arrays, ends -/
section GW
variable {E : gE} {M : gM} {Q : gQ} {pc : Nat} {L : List (Nat × gV)} {st : List gV} {σ : gS}
theorem gK_at (hE : gEnv E) {p : Program} {s : State} {m : MethodId} {args : Array Value} {meth : Method} {c : Code} {R : Room} (hc : gCtx E M p s m args meth c R) : va_K (ge_D E) gCl (gTys (ge_A E)) s := hE.2.1.moved (State.WarmedH.alike hc.2.2.2.2.2.2.2.2.2.1)
theorem gw_lift {pc' : Nat} {st' : List gV} (f : ∀ {p : Program} {e : Env} {s : State} {m : MethodId} {args : Array Value} {below : List Frame} {meth : Method} {c : Code} {R : Room} {H : Heap} {locs : List Loc} {k n : Nat} {ls : Array Slot}, p.tables.exec = Jvm.exec → c.code = gm_cc M →
      W p (ge_l E) e R s m args below meth c H locs k n (Q below args s) (F0 m pc' ls (st'.map gv)) → W p (ge_l E) e R s m args below meth c H locs k n (Q below args s) (F0 m pc ls (st.map gv))) (kk : gW E M Q pc' L st' σ) : gW E M Q pc L st σ :=
  ⟨kk.1, kk.2.1, fun hE p e s m args below meth c R hc H locs k n ls hr e1 e2 hf hl => f hc.1 hc.2.1 (kk.2.2 hE p e s m args below meth c R hc H locs k n ls hr e1 e2 hf hl)⟩
theorem gw_sub {L' : List (Nat × gV)} (ks : List Nat) (h : ks.filterMap (fun i => L[i]?) = L') (kk : gW E M Q pc L' st σ) : gW E M Q pc L st σ := by
  refine ⟨kk.1, kk.2.1, fun hE p e s m args below meth c R hc H locs k n ls hr e1 e2 hf hl => kk.2.2 hE p e s m args below meth c R hc H locs k n ls hr e1 e2 hf ⟨hl.1, hl.2.1, fun q hq => hl.2.2 q ?_⟩⟩
  subst h
  unfold gL at hq ⊢
  obtain ⟨x, hx, rfl⟩ := List.mem_map.mp hq
  obtain ⟨i, -, hi⟩ := List.mem_filterMap.mp hx
  exact List.mem_map_of_mem (List.mem_of_getElem? hi)
theorem gw_to {st' : List gV} (h : st = st') (kk : gW E M Q pc L st' σ) : gW E M Q pc L st σ := h ▸ kk
theorem gw_pc {pc' : Nat} (h : pc = pc') (kk : gW E M Q pc' L st σ) : gW E M Q pc L st σ := h ▸ kk
theorem gw_iadd {x y : Int32} (hd : decode (gm_cc M) pc = .ok (.iadd, 1)) (kk : gW E M Q (pc + 1) L (vI (x + y) :: st) σ) : gW E M Q pc L (vI y :: vI x :: st) σ := gw_lift (fun hx hb w => lv_iadd hx hb hd  w) kk
theorem gw_isub {x y : Int32} (hd : decode (gm_cc M) pc = .ok (.isub, 1)) (kk : gW E M Q (pc + 1) L (vI (x - y) :: st) σ) : gW E M Q pc L (vI y :: vI x :: st) σ := gw_lift (fun hx hb w => lv_isub hx hb hd  w) kk
theorem gw_imul {x y : Int32} (hd : decode (gm_cc M) pc = .ok (.imul, 1)) (kk : gW E M Q (pc + 1) L (vI (x * y) :: st) σ) : gW E M Q pc L (vI y :: vI x :: st) σ := gw_lift (fun hx hb w => lv_imul hx hb hd  w) kk
theorem gw_iand {x y : Int32} (hd : decode (gm_cc M) pc = .ok (.iand, 1)) (kk : gW E M Q (pc + 1) L (vI (x &&& y) :: st) σ) : gW E M Q pc L (vI y :: vI x :: st) σ := gw_lift (fun hx hb w => lv_iand hx hb hd  w) kk
theorem gw_ior {x y : Int32} (hd : decode (gm_cc M) pc = .ok (.ior, 1)) (kk : gW E M Q (pc + 1) L (vI (x ||| y) :: st) σ) : gW E M Q pc L (vI y :: vI x :: st) σ := gw_lift (fun hx hb w => lv_ior hx hb hd  w) kk
theorem gw_ixor {x y : Int32} (hd : decode (gm_cc M) pc = .ok (.ixor, 1)) (kk : gW E M Q (pc + 1) L (vI (x ^^^ y) :: st) σ) : gW E M Q pc L (vI y :: vI x :: st) σ := gw_lift (fun hx hb w => lv_ixor hx hb hd  w) kk
theorem gw_ishl {x y : Int32} (hd : decode (gm_cc M) pc = .ok (.ishl, 1)) (kk : gW E M Q (pc + 1) L (vI (x <<< (y &&& 31)) :: st) σ) : gW E M Q pc L (vI y :: vI x :: st) σ := gw_lift (fun hx hb w => lv_ishl hx hb hd  w) kk
theorem gw_ishr {x y : Int32} (hd : decode (gm_cc M) pc = .ok (.ishr, 1)) (kk : gW E M Q (pc + 1) L (vI (x >>> (y &&& 31)) :: st) σ) : gW E M Q pc L (vI y :: vI x :: st) σ := gw_lift (fun hx hb w => lv_ishr hx hb hd  w) kk
theorem gw_iushr {x y : Int32} (hd : decode (gm_cc M) pc = .ok (.iushr, 1)) (kk : gW E M Q (pc + 1) L (vI ((x.toUInt32 >>> (y.toUInt32 &&& Int32.toUInt32 31)).toInt32) :: st) σ) : gW E M Q pc L (vI y :: vI x :: st) σ := gw_lift (fun hx hb w => lv_iushr hx hb hd rfl w) kk
theorem gw_idiv {x y : Int32} (hne : ¬ y = 0) (hd : decode (gm_cc M) pc = .ok (.idiv, 1)) (kk : gW E M Q (pc + 1) L (vI (x / y) :: st) σ) : gW E M Q pc L (vI y :: vI x :: st) σ := gw_lift (fun hx hb w => lv_idiv hx hb hd hne w) kk
theorem gw_irem {x y : Int32} (hne : ¬ y = 0) (hd : decode (gm_cc M) pc = .ok (.irem, 1)) (kk : gW E M Q (pc + 1) L (vI (x - x / y * y) :: st) σ) : gW E M Q pc L (vI y :: vI x :: st) σ := gw_lift (fun hx hb w => lv_irem hx hb hd hne w) kk
theorem gw_ineg {x : Int32} (hd : decode (gm_cc M) pc = .ok (.ineg, 1)) (kk : gW E M Q (pc + 1) L (vI (-x) :: st) σ) : gW E M Q pc L (vI x :: st) σ := gw_lift (fun hx hb w => lv_ineg hx hb hd  w) kk
theorem gw_i2l {x : Int32} (hd : decode (gm_cc M) pc = .ok (.i2l, 1)) (kk : gW E M Q (pc + 1) L (vJ (x.toInt64) :: st) σ) : gW E M Q pc L (vI x :: st) σ := gw_lift (fun hx hb w => lv_i2l hx hb hd rfl w) kk
theorem gw_l2i {x : Int64} (hd : decode (gm_cc M) pc = .ok (.l2i, 1)) (kk : gW E M Q (pc + 1) L (vI (x.toInt32) :: st) σ) : gW E M Q pc L (vJ x :: st) σ := gw_lift (fun hx hb w => lv_l2i hx hb hd rfl w) kk
theorem gw_i2b {x : Int32} (hd : decode (gm_cc M) pc = .ok (.i2b, 1)) (kk : gW E M Q (pc + 1) L (vI (x.toInt8.toInt32) :: st) σ) : gW E M Q pc L (vI x :: st) σ := gw_lift (fun hx hb w => lv_i2b hx hb hd rfl w) kk
theorem gw_i2c {x : Int32} (hd : decode (gm_cc M) pc = .ok (.i2c, 1)) (kk : gW E M Q (pc + 1) L (vI ((x.toUInt32 % 65536).toInt32) :: st) σ) : gW E M Q pc L (vI x :: st) σ := gw_lift (fun hx hb w => lv_i2c hx hb hd rfl w) kk
theorem gw_ladd {x y : Int64} (hd : decode (gm_cc M) pc = .ok (.ladd, 1)) (kk : gW E M Q (pc + 1) L (vJ (x + y) :: st) σ) : gW E M Q pc L (vJ y :: vJ x :: st) σ := gw_lift (fun hx hb w => lv_ladd hx hb hd  w) kk
theorem gw_lsub {x y : Int64} (hd : decode (gm_cc M) pc = .ok (.lsub, 1)) (kk : gW E M Q (pc + 1) L (vJ (x - y) :: st) σ) : gW E M Q pc L (vJ y :: vJ x :: st) σ := gw_lift (fun hx hb w => lv_lsub hx hb hd  w) kk
theorem gw_lmul {x y : Int64} (hd : decode (gm_cc M) pc = .ok (.lmul, 1)) (kk : gW E M Q (pc + 1) L (vJ (x * y) :: st) σ) : gW E M Q pc L (vJ y :: vJ x :: st) σ := gw_lift (fun hx hb w => lv_lmul hx hb hd  w) kk
theorem gw_i2f {x : Int32} (hd : decode (gm_cc M) pc = .ok (.i2f, 1)) (kk : gW E M Q (pc + 1) L (vF (FP.i2f x) :: st) σ) : gW E M Q pc L (vI x :: st) σ := gw_lift (fun hx hb w => lv_i2f hx hb hd  w) kk
theorem gw_f2i {x : UInt32} (hd : decode (gm_cc M) pc = .ok (.f2i, 1)) (kk : gW E M Q (pc + 1) L (vI (FP.f2i x) :: st) σ) : gW E M Q pc L (vF x :: st) σ := gw_lift (fun hx hb w => lv_f2i hx hb hd  w) kk
theorem gw_fcmp {x y : UInt32} {op : CmpOp} (hd : decode (gm_cc M) pc = .ok (.fcmp op, 1)) (kk : gW E M Q (pc + 1) L (vI (Op.cmpValue (FP.fcmp x y) op) :: st) σ) : gW E M Q pc L (vF y :: vF x :: st) σ := gw_lift (fun hx hb w => lv_fcmp hx hb hd  w) kk
theorem gw_fmul {x y : UInt32} (hne : vf_n32 (FP.fmul x y)) (hd : decode (gm_cc M) pc = .ok (.fmul, 1)) (kk : gW E M Q (pc + 1) L (vF (FP.fmul x y) :: st) σ) : gW E M Q pc L (vF y :: vF x :: st) σ := gw_lift (fun hx hb w => lv_fmul hx hb hd hne w) kk
noncomputable def gfn (x : UInt32) : Option Unit := @ite _ (vf_n32 x) (Classical.propDecidable _) (some ()) none
theorem gfn_spec {x : UInt32} {u : Unit} (h : gfn x = some u) : vf_n32 x := by
  unfold gfn at h
  split at h
  · assumption
  · cases h
theorem gw_fconst0 (hd : decode (gm_cc M) pc = .ok (.fconst 0, 1)) (kk : gW E M Q (pc + 1) L (vF FP.fconst0 :: st) σ) : gW E M Q pc L ( st) σ := gw_lift (fun hx hb w => lv_fconst0 hx hb hd  w) kk
theorem gw_lconst {n : Fin 2} {v : Int64} (hv : Int64.ofNat (n : Nat) = v) (hd : decode (gm_cc M) pc = .ok (.lconst n, 1)) (kk : gW E M Q (pc + 1) L (vJ v :: st) σ) : gW E M Q pc L ( st) σ := gw_lift (fun hx hb w => lv_lconst hx hb hd hv w) kk
theorem gw_iconst {n : Int} {v : Int32} (hv : Int32.ofInt n = v) (hd : decode (gm_cc M) pc = .ok (.iconst n, 1)) (kk : gW E M Q (pc + 1) L (vI v :: st) σ) : gW E M Q pc L ( st) σ := gw_lift (fun hx hb w => lv_iconst hx hb hd hv w) kk
theorem gw_bipush {n : Int} {v : Int32} (hv : (Int8.ofInt n).toInt32 = v) (hd : decode (gm_cc M) pc = .ok (.bipush n, 2)) (kk : gW E M Q (pc + 2) L (vI v :: st) σ) : gW E M Q pc L ( st) σ := gw_lift (fun hx hb w => lv_bipush hx hb hd hv w) kk
theorem gw_sipush {n : Int} {v : Int32} (hv : (Int16.ofInt n).toInt32 = v) (hd : decode (gm_cc M) pc = .ok (.sipush n, 3)) (kk : gW E M Q (pc + 3) L (vI v :: st) σ) : gW E M Q pc L ( st) σ := gw_lift (fun hx hb w => lv_sipush hx hb hd hv w) kk
theorem gw_null (hd : decode (gm_cc M) pc = .ok (.aconst_null, 1)) (kk : gW E M Q (pc + 1) L (vR none :: st) σ) : gW E M Q pc L st σ := gw_lift (fun hx hb w => lv_null hx hb hd w) kk
theorem gw_dup {a : gV} (ha : gcat a = 1) (hd : decode (gm_cc M) pc = .ok (.dup, 1)) (kk : gW E M Q (pc + 1) L (a :: a :: st) σ) : gW E M Q pc L (a :: st) σ := gw_lift (fun hx hb w => lv_dup hx hb hd (show (gv a).category = 1 by rw [gv_cat]; exact ha) w) kk
theorem gw_pop {a : gV} (ha : gcat a = 1) (hd : decode (gm_cc M) pc = .ok (.pop, 1)) (kk : gW E M Q (pc + 1) L st σ) : gW E M Q pc L (a :: st) σ := gw_lift (fun hx hb w => lv_pop hx hb hd (show (gv a).category = 1 by rw [gv_cat]; exact ha) w) kk
theorem gw_dup_x1 {a b : gV} (ha : gcat a = 1) (hb1 : gcat b = 1) (hd : decode (gm_cc M) pc = .ok (.dup_x1, 1)) (kk : gW E M Q (pc + 1) L (a :: b :: a :: st) σ) : gW E M Q pc L (a :: b :: st) σ := gw_lift (fun hx hb w => lv_dup_x1 hx hb hd (show (gv a).category = 1 by rw [gv_cat]; exact ha) (show (gv b).category = 1 by rw [gv_cat]; exact hb1) w) kk
theorem gw_dup_x2 {a b d : gV} (ha : gcat a = 1) (hb1 : gcat b = 1) (hc1 : gcat d = 1) (hd : decode (gm_cc M) pc = .ok (.dup_x2, 1)) (kk : gW E M Q (pc + 1) L (a :: b :: d :: a :: st) σ) : gW E M Q pc L (a :: b :: d :: st) σ := gw_lift (fun hx hb w => lv_dup_x2 hx hb hd (show (gv a).category = 1 by rw [gv_cat]; exact ha) (show (gv b).category = 1 by rw [gv_cat]; exact hb1) (show (gv d).category = 1 by rw [gv_cat]; exact hc1) w) kk
theorem gw_dup2_11 {a b : gV} (ha : gcat a = 1) (hb1 : gcat b = 1) (hd : decode (gm_cc M) pc = .ok (.dup2, 1)) (kk : gW E M Q (pc + 1) L (a :: b :: a :: b :: st) σ) : gW E M Q pc L (a :: b :: st) σ := gw_lift (fun hx hb w => lv_dup2_11 hx hb hd (show (gv a).category = 1 by rw [gv_cat]; exact ha) (show (gv b).category = 1 by rw [gv_cat]; exact hb1) w) kk
theorem gw_goto {off : Int} {tgt : Nat} (hd : decode (gm_cc M) pc = .ok (.goto off, 3)) (ht : (pc : Int) + off = (tgt : Int)) (kk : gW E M Q tgt L st σ) : gW E M Q pc L st σ := gw_lift (fun hx hb w => lv_goto hx hb hd ht w) kk
theorem gw_lcmp {x y : Int64} (hd : decode (gm_cc M) pc = .ok (.lcmp, 1)) (kk : gW E M Q (pc + 1) L (vI (lg_cmp x y) :: st) σ) : gW E M Q pc L (vJ y :: vJ x :: st) σ := gw_lift (fun hx hb w => W.lcmp hx hb hd w) kk
theorem gw_icmp_eq {x y : Int32} {off : Int} {tgt : Nat} (hd : decode (gm_cc M) pc = .ok (.if_icmp .eq off, 3)) (ht : (pc : Int) + off = (tgt : Int)) (kt : x = y → gW E M Q tgt L st σ) (kf : ¬ x = y → gW E M Q (pc + 3) L st σ) : gW E M Q pc L (vI y :: vI x :: st) σ := by
  have hb0 : σ.2.1 ≤ gm_zf M ∧ σ.2.2 ≤ gm_nf M := by
    by_cases h : x = y
    · exact ⟨(kt h).1, (kt h).2.1⟩
    · exact ⟨(kf h).1, (kf h).2.1⟩
  exact ⟨hb0.1, hb0.2, fun hE p e s m args below meth c R hc H locs k9 n9 ls hr e1 e2 hf hl => lv_icmp_eq hc.1 hc.2.1 hd ht (fun h => (kt h).2.2 hE p e s m args below meth c R hc H locs k9 n9 ls hr e1 e2 hf hl) (fun h => (kf h).2.2 hE p e s m args below meth c R hc H locs k9 n9 ls hr e1 e2 hf hl)⟩
theorem gw_icmp_ne {x y : Int32} {off : Int} {tgt : Nat} (hd : decode (gm_cc M) pc = .ok (.if_icmp .ne off, 3)) (ht : (pc : Int) + off = (tgt : Int)) (kt : ¬ x = y → gW E M Q tgt L st σ) (kf : x = y → gW E M Q (pc + 3) L st σ) : gW E M Q pc L (vI y :: vI x :: st) σ := by
  have hb0 : σ.2.1 ≤ gm_zf M ∧ σ.2.2 ≤ gm_nf M := by
    by_cases h : x = y
    · exact ⟨(kf h).1, (kf h).2.1⟩
    · exact ⟨(kt h).1, (kt h).2.1⟩
  exact ⟨hb0.1, hb0.2, fun hE p e s m args below meth c R hc H locs k9 n9 ls hr e1 e2 hf hl => lv_icmp_ne hc.1 hc.2.1 hd ht (fun h => (kt h).2.2 hE p e s m args below meth c R hc H locs k9 n9 ls hr e1 e2 hf hl) (fun h => (kf h).2.2 hE p e s m args below meth c R hc H locs k9 n9 ls hr e1 e2 hf hl)⟩
theorem gw_icmp_lt {x y : Int32} {off : Int} {tgt : Nat} (hd : decode (gm_cc M) pc = .ok (.if_icmp .lt off, 3)) (ht : (pc : Int) + off = (tgt : Int)) (kt : x < y → gW E M Q tgt L st σ) (kf : ¬ x < y → gW E M Q (pc + 3) L st σ) : gW E M Q pc L (vI y :: vI x :: st) σ := by
  have hb0 : σ.2.1 ≤ gm_zf M ∧ σ.2.2 ≤ gm_nf M := by
    by_cases h : x < y
    · exact ⟨(kt h).1, (kt h).2.1⟩
    · exact ⟨(kf h).1, (kf h).2.1⟩
  exact ⟨hb0.1, hb0.2, fun hE p e s m args below meth c R hc H locs k9 n9 ls hr e1 e2 hf hl => lv_icmp_lt hc.1 hc.2.1 hd ht (fun h => (kt h).2.2 hE p e s m args below meth c R hc H locs k9 n9 ls hr e1 e2 hf hl) (fun h => (kf h).2.2 hE p e s m args below meth c R hc H locs k9 n9 ls hr e1 e2 hf hl)⟩
theorem gw_icmp_ge {x y : Int32} {off : Int} {tgt : Nat} (hd : decode (gm_cc M) pc = .ok (.if_icmp .ge off, 3)) (ht : (pc : Int) + off = (tgt : Int)) (kt : y ≤ x → gW E M Q tgt L st σ) (kf : ¬ y ≤ x → gW E M Q (pc + 3) L st σ) : gW E M Q pc L (vI y :: vI x :: st) σ := by
  have hb0 : σ.2.1 ≤ gm_zf M ∧ σ.2.2 ≤ gm_nf M := by
    by_cases h : y ≤ x
    · exact ⟨(kt h).1, (kt h).2.1⟩
    · exact ⟨(kf h).1, (kf h).2.1⟩
  exact ⟨hb0.1, hb0.2, fun hE p e s m args below meth c R hc H locs k9 n9 ls hr e1 e2 hf hl => lv_icmp_ge hc.1 hc.2.1 hd ht (fun h => (kt h).2.2 hE p e s m args below meth c R hc H locs k9 n9 ls hr e1 e2 hf hl) (fun h => (kf h).2.2 hE p e s m args below meth c R hc H locs k9 n9 ls hr e1 e2 hf hl)⟩
theorem gw_icmp_gt {x y : Int32} {off : Int} {tgt : Nat} (hd : decode (gm_cc M) pc = .ok (.if_icmp .gt off, 3)) (ht : (pc : Int) + off = (tgt : Int)) (kt : y < x → gW E M Q tgt L st σ) (kf : ¬ y < x → gW E M Q (pc + 3) L st σ) : gW E M Q pc L (vI y :: vI x :: st) σ := by
  have hb0 : σ.2.1 ≤ gm_zf M ∧ σ.2.2 ≤ gm_nf M := by
    by_cases h : y < x
    · exact ⟨(kt h).1, (kt h).2.1⟩
    · exact ⟨(kf h).1, (kf h).2.1⟩
  exact ⟨hb0.1, hb0.2, fun hE p e s m args below meth c R hc H locs k9 n9 ls hr e1 e2 hf hl => lv_icmp_gt hc.1 hc.2.1 hd ht (fun h => (kt h).2.2 hE p e s m args below meth c R hc H locs k9 n9 ls hr e1 e2 hf hl) (fun h => (kf h).2.2 hE p e s m args below meth c R hc H locs k9 n9 ls hr e1 e2 hf hl)⟩
theorem gw_icmp_le {x y : Int32} {off : Int} {tgt : Nat} (hd : decode (gm_cc M) pc = .ok (.if_icmp .le off, 3)) (ht : (pc : Int) + off = (tgt : Int)) (kt : x ≤ y → gW E M Q tgt L st σ) (kf : ¬ x ≤ y → gW E M Q (pc + 3) L st σ) : gW E M Q pc L (vI y :: vI x :: st) σ := by
  have hb0 : σ.2.1 ≤ gm_zf M ∧ σ.2.2 ≤ gm_nf M := by
    by_cases h : x ≤ y
    · exact ⟨(kt h).1, (kt h).2.1⟩
    · exact ⟨(kf h).1, (kf h).2.1⟩
  exact ⟨hb0.1, hb0.2, fun hE p e s m args below meth c R hc H locs k9 n9 ls hr e1 e2 hf hl => lv_icmp_le hc.1 hc.2.1 hd ht (fun h => (kt h).2.2 hE p e s m args below meth c R hc H locs k9 n9 ls hr e1 e2 hf hl) (fun h => (kf h).2.2 hE p e s m args below meth c R hc H locs k9 n9 ls hr e1 e2 hf hl)⟩
theorem gw_if_eq {x : Int32} {off : Int} {tgt : Nat} (hd : decode (gm_cc M) pc = .ok (.ifCond .eq off, 3)) (ht : (pc : Int) + off = (tgt : Int)) (kt : x = 0 → gW E M Q tgt L st σ) (kf : ¬ x = 0 → gW E M Q (pc + 3) L st σ) : gW E M Q pc L (vI x :: st) σ := by
  have hb0 : σ.2.1 ≤ gm_zf M ∧ σ.2.2 ≤ gm_nf M := by
    by_cases h : x = 0
    · exact ⟨(kt h).1, (kt h).2.1⟩
    · exact ⟨(kf h).1, (kf h).2.1⟩
  exact ⟨hb0.1, hb0.2, fun hE p e s m args below meth c R hc H locs k9 n9 ls hr e1 e2 hf hl => lv_if_eq hc.1 hc.2.1 hd ht (fun h => (kt h).2.2 hE p e s m args below meth c R hc H locs k9 n9 ls hr e1 e2 hf hl) (fun h => (kf h).2.2 hE p e s m args below meth c R hc H locs k9 n9 ls hr e1 e2 hf hl)⟩
theorem gw_if_ne {x : Int32} {off : Int} {tgt : Nat} (hd : decode (gm_cc M) pc = .ok (.ifCond .ne off, 3)) (ht : (pc : Int) + off = (tgt : Int)) (kt : ¬ x = 0 → gW E M Q tgt L st σ) (kf : x = 0 → gW E M Q (pc + 3) L st σ) : gW E M Q pc L (vI x :: st) σ := by
  have hb0 : σ.2.1 ≤ gm_zf M ∧ σ.2.2 ≤ gm_nf M := by
    by_cases h : x = 0
    · exact ⟨(kf h).1, (kf h).2.1⟩
    · exact ⟨(kt h).1, (kt h).2.1⟩
  exact ⟨hb0.1, hb0.2, fun hE p e s m args below meth c R hc H locs k9 n9 ls hr e1 e2 hf hl => lv_if_ne hc.1 hc.2.1 hd ht (fun h => (kt h).2.2 hE p e s m args below meth c R hc H locs k9 n9 ls hr e1 e2 hf hl) (fun h => (kf h).2.2 hE p e s m args below meth c R hc H locs k9 n9 ls hr e1 e2 hf hl)⟩
theorem gw_if_lt {x : Int32} {off : Int} {tgt : Nat} (hd : decode (gm_cc M) pc = .ok (.ifCond .lt off, 3)) (ht : (pc : Int) + off = (tgt : Int)) (kt : x < 0 → gW E M Q tgt L st σ) (kf : ¬ x < 0 → gW E M Q (pc + 3) L st σ) : gW E M Q pc L (vI x :: st) σ := by
  have hb0 : σ.2.1 ≤ gm_zf M ∧ σ.2.2 ≤ gm_nf M := by
    by_cases h : x < 0
    · exact ⟨(kt h).1, (kt h).2.1⟩
    · exact ⟨(kf h).1, (kf h).2.1⟩
  exact ⟨hb0.1, hb0.2, fun hE p e s m args below meth c R hc H locs k9 n9 ls hr e1 e2 hf hl => lv_if_lt hc.1 hc.2.1 hd ht (fun h => (kt h).2.2 hE p e s m args below meth c R hc H locs k9 n9 ls hr e1 e2 hf hl) (fun h => (kf h).2.2 hE p e s m args below meth c R hc H locs k9 n9 ls hr e1 e2 hf hl)⟩
theorem gw_if_ge {x : Int32} {off : Int} {tgt : Nat} (hd : decode (gm_cc M) pc = .ok (.ifCond .ge off, 3)) (ht : (pc : Int) + off = (tgt : Int)) (kt : 0 ≤ x → gW E M Q tgt L st σ) (kf : ¬ 0 ≤ x → gW E M Q (pc + 3) L st σ) : gW E M Q pc L (vI x :: st) σ := by
  have hb0 : σ.2.1 ≤ gm_zf M ∧ σ.2.2 ≤ gm_nf M := by
    by_cases h : 0 ≤ x
    · exact ⟨(kt h).1, (kt h).2.1⟩
    · exact ⟨(kf h).1, (kf h).2.1⟩
  exact ⟨hb0.1, hb0.2, fun hE p e s m args below meth c R hc H locs k9 n9 ls hr e1 e2 hf hl => lv_if_ge hc.1 hc.2.1 hd ht (fun h => (kt h).2.2 hE p e s m args below meth c R hc H locs k9 n9 ls hr e1 e2 hf hl) (fun h => (kf h).2.2 hE p e s m args below meth c R hc H locs k9 n9 ls hr e1 e2 hf hl)⟩
theorem gw_if_gt {x : Int32} {off : Int} {tgt : Nat} (hd : decode (gm_cc M) pc = .ok (.ifCond .gt off, 3)) (ht : (pc : Int) + off = (tgt : Int)) (kt : 0 < x → gW E M Q tgt L st σ) (kf : ¬ 0 < x → gW E M Q (pc + 3) L st σ) : gW E M Q pc L (vI x :: st) σ := by
  have hb0 : σ.2.1 ≤ gm_zf M ∧ σ.2.2 ≤ gm_nf M := by
    by_cases h : 0 < x
    · exact ⟨(kt h).1, (kt h).2.1⟩
    · exact ⟨(kf h).1, (kf h).2.1⟩
  exact ⟨hb0.1, hb0.2, fun hE p e s m args below meth c R hc H locs k9 n9 ls hr e1 e2 hf hl => lv_if_gt hc.1 hc.2.1 hd ht (fun h => (kt h).2.2 hE p e s m args below meth c R hc H locs k9 n9 ls hr e1 e2 hf hl) (fun h => (kf h).2.2 hE p e s m args below meth c R hc H locs k9 n9 ls hr e1 e2 hf hl)⟩
theorem gw_if_le {x : Int32} {off : Int} {tgt : Nat} (hd : decode (gm_cc M) pc = .ok (.ifCond .le off, 3)) (ht : (pc : Int) + off = (tgt : Int)) (kt : x ≤ 0 → gW E M Q tgt L st σ) (kf : ¬ x ≤ 0 → gW E M Q (pc + 3) L st σ) : gW E M Q pc L (vI x :: st) σ := by
  have hb0 : σ.2.1 ≤ gm_zf M ∧ σ.2.2 ≤ gm_nf M := by
    by_cases h : x ≤ 0
    · exact ⟨(kt h).1, (kt h).2.1⟩
    · exact ⟨(kf h).1, (kf h).2.1⟩
  exact ⟨hb0.1, hb0.2, fun hE p e s m args below meth c R hc H locs k9 n9 ls hr e1 e2 hf hl => lv_if_le hc.1 hc.2.1 hd ht (fun h => (kt h).2.2 hE p e s m args below meth c R hc H locs k9 n9 ls hr e1 e2 hf hl) (fun h => (kf h).2.2 hE p e s m args below meth c R hc H locs k9 n9 ls hr e1 e2 hf hl)⟩
theorem gw_acmp_eq {rx ry : Option Nat} {off : Int} {tgt : Nat} (hd : decode (gm_cc M) pc = .ok (.if_acmp .eq off, 3)) (ht : (pc : Int) + off = (tgt : Int)) (kt : rx = ry → gW E M Q tgt L st σ) (kf : ¬ rx = ry → gW E M Q (pc + 3) L st σ) : gW E M Q pc L (vR ry :: vR rx :: st) σ := by
  have hb0 : σ.2.1 ≤ gm_zf M ∧ σ.2.2 ≤ gm_nf M := by
    by_cases h : rx = ry
    · exact ⟨(kt h).1, (kt h).2.1⟩
    · exact ⟨(kf h).1, (kf h).2.1⟩
  exact ⟨hb0.1, hb0.2, fun hE p e s m args below meth c R hc H locs k9 n9 ls hr e1 e2 hf hl => lv_acmp_eq hc.1 hc.2.1 hd ht (fun h => (kt h).2.2 hE p e s m args below meth c R hc H locs k9 n9 ls hr e1 e2 hf hl) (fun h => (kf h).2.2 hE p e s m args below meth c R hc H locs k9 n9 ls hr e1 e2 hf hl)⟩
theorem gw_acmp_ne {rx ry : Option Nat} {off : Int} {tgt : Nat} (hd : decode (gm_cc M) pc = .ok (.if_acmp .ne off, 3)) (ht : (pc : Int) + off = (tgt : Int)) (kt : ¬ rx = ry → gW E M Q tgt L st σ) (kf : rx = ry → gW E M Q (pc + 3) L st σ) : gW E M Q pc L (vR ry :: vR rx :: st) σ := by
  have hb0 : σ.2.1 ≤ gm_zf M ∧ σ.2.2 ≤ gm_nf M := by
    by_cases h : rx = ry
    · exact ⟨(kf h).1, (kf h).2.1⟩
    · exact ⟨(kt h).1, (kt h).2.1⟩
  exact ⟨hb0.1, hb0.2, fun hE p e s m args below meth c R hc H locs k9 n9 ls hr e1 e2 hf hl => lv_acmp_ne hc.1 hc.2.1 hd ht (fun h => (kt h).2.2 hE p e s m args below meth c R hc H locs k9 n9 ls hr e1 e2 hf hl) (fun h => (kf h).2.2 hE p e s m args below meth c R hc H locs k9 n9 ls hr e1 e2 hf hl)⟩
theorem gw_iload_n {k : Fin 4} {x : Int32} (j : Nat) (hj : L[j]? = some ((k : Nat), vI x)) (hd : decode (gm_cc M) pc = .ok (.iload_n k, 1)) (kk : gW E M Q (pc + 1) L (vI x :: st) σ) : gW E M Q pc L st σ :=
  ⟨kk.1, kk.2.1, fun hE p e s m args below meth c R hc H locs k9 n9 ls hr e1 e2 hf hl => lv_iload_n hc.1 hc.2.1 hd rfl (lv_at hl j (gL_at hj)) (kk.2.2 hE p e s m args below meth c R hc H locs k9 n9 ls hr e1 e2 hf hl)⟩
theorem gw_iload {i : Nat} {x : Int32} (j : Nat) (hj : L[j]? = some (i, vI x)) (hd : decode (gm_cc M) pc = .ok (.iload i, 2)) (kk : gW E M Q (pc + 2) L (vI x :: st) σ) : gW E M Q pc L st σ :=
  ⟨kk.1, kk.2.1, fun hE p e s m args below meth c R hc H locs k9 n9 ls hr e1 e2 hf hl => lv_iload hc.1 hc.2.1 hd (lv_at hl j (gL_at hj)) (kk.2.2 hE p e s m args below meth c R hc H locs k9 n9 ls hr e1 e2 hf hl)⟩
theorem gw_istore_n {k : Fin 4} {x : Int32} {L' : List (Nat × gV)} (hn : (k : Nat) < gm_nL M) (hL : gst1 k (vI x) L = L') (hd : decode (gm_cc M) pc = .ok (.istore_n k, 1)) (kk : gW E M Q (pc + 1) L' st σ) : gW E M Q pc L (vI x :: st) σ := by
  subst hL
  exact ⟨kk.1, kk.2.1, fun hE p e s m args below meth c R hc H locs k9 n9 ls hr e1 e2 hf hl => lv_istore_n hc.1 hc.2.1 hd rfl hl hn (gL_st1 _ (vI x) L) (fun ls hl => kk.2.2 hE p e s m args below meth c R hc H locs k9 n9 ls hr e1 e2 hf hl)⟩
theorem gw_istore {i : Nat} {x : Int32} {L' : List (Nat × gV)} (hn : i < gm_nL M) (hL : gst1 i (vI x) L = L') (hd : decode (gm_cc M) pc = .ok (.istore i, 2)) (kk : gW E M Q (pc + 2) L' st σ) : gW E M Q pc L (vI x :: st) σ := by
  subst hL
  exact ⟨kk.1, kk.2.1, fun hE p e s m args below meth c R hc H locs k9 n9 ls hr e1 e2 hf hl => lv_istore hc.1 hc.2.1 hd hl hn (gL_st1 _ (vI x) L) (fun ls hl => kk.2.2 hE p e s m args below meth c R hc H locs k9 n9 ls hr e1 e2 hf hl)⟩
theorem gw_lload_n {k : Fin 4} {x : Int64} (j : Nat) (hj : L[j]? = some ((k : Nat), vJ x)) (hd : decode (gm_cc M) pc = .ok (.lload_n k, 1)) (kk : gW E M Q (pc + 1) L (vJ x :: st) σ) : gW E M Q pc L st σ :=
  ⟨kk.1, kk.2.1, fun hE p e s m args below meth c R hc H locs k9 n9 ls hr e1 e2 hf hl => lv_lload_n hc.1 hc.2.1 hd rfl (lv_at hl j (gL_at hj)) (kk.2.2 hE p e s m args below meth c R hc H locs k9 n9 ls hr e1 e2 hf hl)⟩
theorem gw_lload {i : Nat} {x : Int64} (j : Nat) (hj : L[j]? = some (i, vJ x)) (hd : decode (gm_cc M) pc = .ok (.lload i, 2)) (kk : gW E M Q (pc + 2) L (vJ x :: st) σ) : gW E M Q pc L st σ :=
  ⟨kk.1, kk.2.1, fun hE p e s m args below meth c R hc H locs k9 n9 ls hr e1 e2 hf hl => lv_lload hc.1 hc.2.1 hd (lv_at hl j (gL_at hj)) (kk.2.2 hE p e s m args below meth c R hc H locs k9 n9 ls hr e1 e2 hf hl)⟩
theorem gw_lstore_n {k : Fin 4} {x : Int64} {L' : List (Nat × gV)} (hn : (k : Nat) + 1 < gm_nL M) (hL : gst2 k (vJ x) L = L') (hd : decode (gm_cc M) pc = .ok (.lstore_n k, 1)) (kk : gW E M Q (pc + 1) L' st σ) : gW E M Q pc L (vJ x :: st) σ := by
  subst hL
  exact ⟨kk.1, kk.2.1, fun hE p e s m args below meth c R hc H locs k9 n9 ls hr e1 e2 hf hl => lv_lstore_n hc.1 hc.2.1 hd rfl hl hn (gL_st2 _ (vJ x) L) (fun ls hl => kk.2.2 hE p e s m args below meth c R hc H locs k9 n9 ls hr e1 e2 hf hl)⟩
theorem gw_lstore {i : Nat} {x : Int64} {L' : List (Nat × gV)} (hn : i + 1 < gm_nL M) (hL : gst2 i (vJ x) L = L') (hd : decode (gm_cc M) pc = .ok (.lstore i, 2)) (kk : gW E M Q (pc + 2) L' st σ) : gW E M Q pc L (vJ x :: st) σ := by
  subst hL
  exact ⟨kk.1, kk.2.1, fun hE p e s m args below meth c R hc H locs k9 n9 ls hr e1 e2 hf hl => lv_lstore hc.1 hc.2.1 hd hl hn (gL_st2 _ (vJ x) L) (fun ls hl => kk.2.2 hE p e s m args below meth c R hc H locs k9 n9 ls hr e1 e2 hf hl)⟩
theorem gw_fload_n {k : Fin 4} {x : UInt32} (j : Nat) (hj : L[j]? = some ((k : Nat), vF x)) (hd : decode (gm_cc M) pc = .ok (.fload_n k, 1)) (kk : gW E M Q (pc + 1) L (vF x :: st) σ) : gW E M Q pc L st σ :=
  ⟨kk.1, kk.2.1, fun hE p e s m args below meth c R hc H locs k9 n9 ls hr e1 e2 hf hl => lv_fload_n hc.1 hc.2.1 hd rfl (lv_at hl j (gL_at hj)) (kk.2.2 hE p e s m args below meth c R hc H locs k9 n9 ls hr e1 e2 hf hl)⟩
theorem gw_fload {i : Nat} {x : UInt32} (j : Nat) (hj : L[j]? = some (i, vF x)) (hd : decode (gm_cc M) pc = .ok (.fload i, 2)) (kk : gW E M Q (pc + 2) L (vF x :: st) σ) : gW E M Q pc L st σ :=
  ⟨kk.1, kk.2.1, fun hE p e s m args below meth c R hc H locs k9 n9 ls hr e1 e2 hf hl => lv_fload hc.1 hc.2.1 hd (lv_at hl j (gL_at hj)) (kk.2.2 hE p e s m args below meth c R hc H locs k9 n9 ls hr e1 e2 hf hl)⟩
theorem gw_fstore_n {k : Fin 4} {x : UInt32} {L' : List (Nat × gV)} (hn : (k : Nat) < gm_nL M) (hL : gst1 k (vF x) L = L') (hd : decode (gm_cc M) pc = .ok (.fstore_n k, 1)) (kk : gW E M Q (pc + 1) L' st σ) : gW E M Q pc L (vF x :: st) σ := by
  subst hL
  exact ⟨kk.1, kk.2.1, fun hE p e s m args below meth c R hc H locs k9 n9 ls hr e1 e2 hf hl => lv_fstore_n hc.1 hc.2.1 hd rfl hl hn (gL_st1 _ (vF x) L) (fun ls hl => kk.2.2 hE p e s m args below meth c R hc H locs k9 n9 ls hr e1 e2 hf hl)⟩
theorem gw_fstore {i : Nat} {x : UInt32} {L' : List (Nat × gV)} (hn : i < gm_nL M) (hL : gst1 i (vF x) L = L') (hd : decode (gm_cc M) pc = .ok (.fstore i, 2)) (kk : gW E M Q (pc + 2) L' st σ) : gW E M Q pc L (vF x :: st) σ := by
  subst hL
  exact ⟨kk.1, kk.2.1, fun hE p e s m args below meth c R hc H locs k9 n9 ls hr e1 e2 hf hl => lv_fstore hc.1 hc.2.1 hd hl hn (gL_st1 _ (vF x) L) (fun ls hl => kk.2.2 hE p e s m args below meth c R hc H locs k9 n9 ls hr e1 e2 hf hl)⟩
theorem gw_iinc {i : Nat} {n : Int} {x w : Int32} {L' : List (Nat × gV)} (j : Nat) (hj : L[j]? = some (i, vI x)) (hv : Int32.ofInt n = w) (hn : i < gm_nL M) (hL : gst1 i (vI (x + w)) L = L') (hd : decode (gm_cc M) pc = .ok (.iinc i n, 3)) (kk : gW E M Q (pc + 3) L' st σ) : gW E M Q pc L st σ := by
  subst hL
  exact ⟨kk.1, kk.2.1, fun hE p e s m args below meth c R hc H locs k9 n9 ls hr e1 e2 hf hl => lv_iinc hc.1 hc.2.1 hd hl (gL_at hj) (congrArg (fun z => x + z) hv) hn (gL_st1 _ (vI (x + w)) L) (fun ls hl => kk.2.2 hE p e s m args below meth c R hc H locs k9 n9 ls hr e1 e2 hf hl)⟩
theorem gw_tableIn {dflt lo hi : Int} {offs : Array Int} {len : Nat} {x : Int32} {off : Int} {tgt : Nat} (h1 : ¬ x.toInt < lo) (h2 : ¬ hi < x.toInt) (ho : offs[(x.toInt - lo).toNat]? = some off) (hd : decode (gm_cc M) pc = .ok (.tableswitch dflt lo hi offs, len)) (ht : (pc : Int) + off = (tgt : Int)) (kk : gW E M Q tgt L st σ) : gW E M Q pc L (vI x :: st) σ := gw_lift (fun hx hb w => lv_tableIn hx hb hd h1 h2 ho ht w) kk
theorem gw_tableOut {dflt lo hi : Int} {offs : Array Int} {len : Nat} {x : Int32} {tgt : Nat} (h : x.toInt < lo ∨ hi < x.toInt) (hd : decode (gm_cc M) pc = .ok (.tableswitch dflt lo hi offs, len)) (ht : (pc : Int) + dflt = (tgt : Int)) (kk : gW E M Q tgt L st σ) : gW E M Q pc L (vI x :: st) σ := gw_lift (fun hx hb w => lv_tableOut hx hb hd h ht w) kk
theorem gw_lookup {dflt : Int} {ps : Array (Int × Int)} {len : Nat} {x : Int32} {off : Int} {tgt : Nat} (hp : (ps.toList.zip (ps.toList.drop 1)).all (fun (a, next) => a.1 < next.1) = true) (ho : Op.lookupswitch.offset ps.toList dflt x.toInt = off) (hd : decode (gm_cc M) pc = .ok (.lookupswitch dflt ps, len)) (ht : (pc : Int) + off = (tgt : Int)) (kk : gW E M Q tgt L st σ) : gW E M Q pc L (vI x :: st) σ := gw_lift (fun hx hb w => lv_lookup hx hb hd hp ho ht w) kk
theorem gw_ldc_w {i : Nat} (v : Int32) (hq : Cond.constant (gm_own M) i v ∈ lw_all) (hd : decode (gm_cc M) pc = .ok (.ldc_w i, 3)) (kk : gW E M Q (pc + 3) L (vI v :: st) σ) : gW E M Q pc L st σ :=
  ⟨kk.1, kk.2.1, fun hE p e s m args below meth c R hc H locs k9 n9 ls hr e1 e2 hf hl => lv_ldcw hc.1 hc.2.1 hc.2.2.2.1 (hc.2.2.2.2.1 _ hq) hd (kk.2.2 hE p e s m args below meth c R hc H locs k9 n9 ls hr e1 e2 hf hl)⟩
theorem gst_wf {s : State} {m : MethodId} {v : gV} {k nL : Nat} {ls : Array Slot} (hl : lv_has ls nL (gL L)) (hn : k < nL) (h1 : gcat v = 1) : ∃ ls', storeLocals ls k (gv v) = some ls' ∧ lv_has ls' nL (gL (gst1 k v L)) := by
  obtain ⟨ls', e1, e2⟩ := lv_store1 hl hn (show (gv v).category = 1 by rw [gv_cat]; exact h1)
  exact ⟨ls', e1, by rw [← gL_st1]; exact e2⟩
theorem gw_aload_n {k : Fin 4} {r : Option Nat} (j : Nat) (hj : L[j]? = some ((k : Nat), vR r)) (hd : decode (gm_cc M) pc = .ok (.aload_n k, 1)) (kk : gW E M Q (pc + 1) L (vR r :: st) σ) : gW E M Q pc L st σ := by
  refine ⟨kk.1, kk.2.1, fun hE p e s m args below meth c R hc H locs k9 n9 ls hr e1 e2 hf hl => ?_⟩
  have h9 := kk.2.2 hE p e s m args below meth c R hc H locs k9 n9 ls hr e1 e2 hf hl
  cases r with
  | none => exact lv_aload_nN hc.1 hc.2.1 hd rfl (lv_at hl j (gL_at hj)) h9
  | some a => exact lv_aload_n hc.1 hc.2.1 hd rfl (lv_at hl j (gL_at hj)) h9
theorem gw_aload {i : Nat} {r : Option Nat} (j : Nat) (hj : L[j]? = some (i, vR r)) (hd : decode (gm_cc M) pc = .ok (.aload i, 2)) (kk : gW E M Q (pc + 2) L (vR r :: st) σ) : gW E M Q pc L st σ := by
  refine ⟨kk.1, kk.2.1, fun hE p e s m args below meth c R hc H locs k9 n9 ls hr e1 e2 hf hl => ?_⟩
  have h9 := kk.2.2 hE p e s m args below meth c R hc H locs k9 n9 ls hr e1 e2 hf hl
  cases r with
  | none => exact lv_aloadN hc.1 hc.2.1 hd (lv_at hl j (gL_at hj)) h9
  | some a => exact lv_aload hc.1 hc.2.1 hd (lv_at hl j (gL_at hj)) h9
theorem gw_astore_n {k : Fin 4} {r : Option Nat} {L' : List (Nat × gV)} (hn : (k : Nat) < gm_nL M) (hL : gst1 k (vR r) L = L') (hd : decode (gm_cc M) pc = .ok (.astore_n k, 1)) (kk : gW E M Q (pc + 1) L' st σ) : gW E M Q pc L (vR r :: st) σ := by
  subst hL
  refine ⟨kk.1, kk.2.1, fun hE p e s m args below meth c R hc H locs k9 n9 ls hr e1 e2 hf hl => ?_⟩
  cases r with
  | none => exact lv_astore_nN hc.1 hc.2.1 hd rfl hl hn (gL_st1 _ (vR none) L) (fun ls hl => kk.2.2 hE p e s m args below meth c R hc H locs k9 n9 ls hr e1 e2 hf hl)
  | some a => exact lv_astore_n hc.1 hc.2.1 hd rfl hl hn (gL_st1 _ (vR (some a)) L) (fun ls hl => kk.2.2 hE p e s m args below meth c R hc H locs k9 n9 ls hr e1 e2 hf hl)
theorem gw_astore {i : Nat} {r : Option Nat} {L' : List (Nat × gV)} (hn : i < gm_nL M) (hL : gst1 i (vR r) L = L') (hd : decode (gm_cc M) pc = .ok (.astore i, 2)) (kk : gW E M Q (pc + 2) L' st σ) : gW E M Q pc L (vR r :: st) σ := by
  subst hL
  refine ⟨kk.1, kk.2.1, fun hE p e s m args below meth c R hc H locs k9 n9 ls hr e1 e2 hf hl => ?_⟩
  cases r with
  | none => exact lv_astoreN hc.1 hc.2.1 hd hl hn (gL_st1 _ (vR none) L) (fun ls hl => kk.2.2 hE p e s m args below meth c R hc H locs k9 n9 ls hr e1 e2 hf hl)
  | some a => exact lv_astore hc.1 hc.2.1 hd hl hn (gL_st1 _ (vR (some a)) L) (fun ls hl => kk.2.2 hE p e s m args below meth c R hc H locs k9 n9 ls hr e1 e2 hf hl)
theorem gw_ifnull {r : Option Nat} {off : Int} {tgt : Nat} (hd : decode (gm_cc M) pc = .ok (.ifnull off, 3)) (ht : (pc : Int) + off = (tgt : Int)) (kt : r = none → gW E M Q tgt L st σ) (kf : ¬ r = none → gW E M Q (pc + 3) L st σ) : gW E M Q pc L (vR r :: st) σ := by
  cases r with
  | none => exact gw_lift (fun hx hb w => lv_ifnullN hx hb hd ht w) (kt rfl)
  | some a => exact gw_lift (fun hx hb w => lv_ifnull hx hb hd w) (kf (fun h => by cases h))
theorem gw_ifnonnull {r : Option Nat} {off : Int} {tgt : Nat} (hd : decode (gm_cc M) pc = .ok (.ifnonnull off, 3)) (ht : (pc : Int) + off = (tgt : Int)) (kt : ¬ r = none → gW E M Q tgt L st σ) (kf : r = none → gW E M Q (pc + 3) L st σ) : gW E M Q pc L (vR r :: st) σ := by
  cases r with
  | none => exact gw_lift (fun hx hb w => lv_ifnonnullN hx hb hd w) (kf rfl)
  | some a => exact gw_lift (fun hx hb w => lv_ifnonnull hx hb hd ht w) (kt (fun h => by cases h))
theorem gw_ldc {i : Nat} (v : Int32) (hq : Cond.constant (gm_own M) i v ∈ lw_all) (hd : decode (gm_cc M) pc = .ok (.ldc i, 2)) (kk : gW E M Q (pc + 2) L (vI v :: st) σ) : gW E M Q pc L st σ :=
  ⟨kk.1, kk.2.1, fun hE p e s m args below meth c R hc H locs k9 n9 ls hr e1 e2 hf hl => lv_ldc hc.1 hc.2.1 hc.2.2.2.1 (hc.2.2.2.2.1 _ hq) hd (kk.2.2 hE p e s m args below meth c R hc H locs k9 n9 ls hr e1 e2 hf hl)⟩
theorem gw_ldcf {i : Nat} (v : UInt32) (hq : Cond.constantFloat (gm_own M) i v ∈ lw_all) (hd : decode (gm_cc M) pc = .ok (.ldc i, 2)) (kk : gW E M Q (pc + 2) L (vF v :: st) σ) : gW E M Q pc L st σ :=
  ⟨kk.1, kk.2.1, fun hE p e s m args below meth c R hc H locs k9 n9 ls hr e1 e2 hf hl => lv_ldcf hc.1 hc.2.1 hc.2.2.2.1 (hc.2.2.2.2.1 _ hq) hd (kk.2.2 hE p e s m args below meth c R hc H locs k9 n9 ls hr e1 e2 hf hl)⟩
theorem gw_ldc2 {i : Nat} (v : Int64) (hq : Cond.constantLong (gm_own M) i v ∈ lw_all) (hd : decode (gm_cc M) pc = .ok (.ldc2_w i, 3)) (kk : gW E M Q (pc + 3) L (vJ v :: st) σ) : gW E M Q pc L st σ :=
  ⟨kk.1, kk.2.1, fun hE p e s m args below meth c R hc H locs k9 n9 ls hr e1 e2 hf hl => lv_ldc2 hc.1 hc.2.1 hc.2.2.2.1 (hc.2.2.2.2.1 _ hq) hd (kk.2.2 hE p e s m args below meth c R hc H locs k9 n9 ls hr e1 e2 hf hl)⟩
theorem gw_getf {C : String} {T : u_T} {N ci k idx : Nat} {v : gV} {r : Option Nat} (hcl : gCl[ci]? = some (C, T, N)) (hk : k < N) (hin : ∀ w ∈ u_ws C T N, w ∈ lw_all) (hq : Cond.fieldLink (gm_own M) idx (T k).1 (T k).2.1 (T k).2.2.1 ∈ lw_all) (hv : gfv σ r ci k = some (gv v)) (hd : decode (gm_cc M) pc = .ok (.getfield idx, 3)) (kk : gW E M Q (pc + 3) L (v :: st) σ) : gW E M Q pc L (vR r :: st) σ := by
  obtain ⟨a, fs, rfl, ha, hfs⟩ := gfv_spec hv
  refine ⟨kk.1, kk.2.1, fun hE p e s m args below meth c R hc H locs k9 n9 ls hr e1 e2 hf hl => ?_⟩
  obtain ⟨cell, h1, h2, r9, h3, h4, h5⟩ := g_obj hr ha hcl
  cases h3.symm.trans hcl
  obtain ⟨hS, hfc, kC, hkC, hkind⟩ := (gK_at hE hc).1 ci _ hcl
  obtain ⟨cf, kf, fi, f, hi, hsl⟩ := hS k hk
  have hts := hc.2.2.2.2.1
  refine W.getf hc.1 hc.2.1 hc.2.2.2.1 (hts _ hq) hi (u_facts hfc hkC (u_lays hts hin hk) hi).1 h1 h2.1 (v := gv v) ?_ rfl rfl hd (kk.2.2 hE p e s m args below meth c R hc H locs k9 n9 ls hr e1 e2 hf hl)
  rw [hsl, h5 k hk]
  simp [vp_V, hfs]
theorem gw_getfS {C ref : String} {T : u_T} {N ci k idx : Nat} {v : gV} {r : Option Nat} (hcl : gCl[ci]? = some (C, T, N)) (hk : k < N) (hin : ∀ w ∈ u_ws C T N, w ∈ lw_all) (hq : Cond.fieldLink (gm_own M) idx ref (T k).2.1 (T k).2.2.1 ∈ lw_all) (hsm : Cond.sameField ref (T k).1 (T k).2.1 (T k).2.2.1 ∈ lw_all) (hv : gfv σ r ci k = some (gv v)) (hd : decode (gm_cc M) pc = .ok (.getfield idx, 3)) (kk : gW E M Q (pc + 3) L (v :: st) σ) : gW E M Q pc L (vR r :: st) σ := by
  obtain ⟨a, fs, rfl, ha, hfs⟩ := gfv_spec hv
  refine ⟨kk.1, kk.2.1, fun hE p e s m args below meth c R hc H locs k9 n9 ls hr e1 e2 hf hl => ?_⟩
  obtain ⟨cell, h1, h2, r9, h3, h4, h5⟩ := g_obj hr ha hcl
  cases h3.symm.trans hcl
  obtain ⟨hS, hfc, kC, hkC, hkind⟩ := (gK_at hE hc).1 ci _ hcl
  obtain ⟨cf, kf, fi, f, hi, hsl⟩ := hS k hk
  have hts := hc.2.2.2.2.1
  refine W.getf hc.1 hc.2.1 hc.2.2.2.1 (hts _ hq) (u_same (hts _ hsm) _ hi) (u_facts hfc hkC (u_lays hts hin hk) hi).1 h1 h2.1 (v := gv v) ?_ rfl rfl hd (kk.2.2 hE p e s m args below meth c R hc H locs k9 n9 ls hr e1 e2 hf hl)
  rw [hsl, h5 k hk]
  simp [vp_V, hfs]
theorem gw_getfN {C host : String} {T : u_T} {N ci k idx : Nat} {v : gV} {r : Option Nat} (hcl : gCl[ci]? = some (C, T, N)) (hk : k < N) (hin : ∀ w ∈ u_ws C T N, w ∈ lw_all) (hq : Cond.fieldLinkNest (gm_own M) idx (T k).1 (T k).2.1 (T k).2.2.1 host ∈ lw_tbl) (hv : gfv σ r ci k = some (gv v)) (hd : decode (gm_cc M) pc = .ok (.getfield idx, 3)) (kk : gW E M Q (pc + 3) L (v :: st) σ) : gW E M Q pc L (vR r :: st) σ := by
  obtain ⟨a, fs, rfl, ha, hfs⟩ := gfv_spec hv
  refine ⟨kk.1, kk.2.1, fun hE p e s m args below meth c R hc H locs k9 n9 ls hr e1 e2 hf hl => ?_⟩
  obtain ⟨cell, h1, h2, r9, h3, h4, h5⟩ := g_obj hr ha hcl
  cases h3.symm.trans hcl
  obtain ⟨hS, hfc, kC, hkC, hkind⟩ := (gK_at hE hc).1 ci _ hcl
  obtain ⟨cf, kf, fi, f, hi, hsl⟩ := hS k hk
  have hts := hc.2.2.2.2.1
  refine va_Wgetf hc.1 hc.2.1 hc.2.2.2.1 (va_Nw.use (A := args) rfl (va_Nw.warmF hc.2.2.2.2.2.2.2.2.2.1 (va_Nw.of rfl (hE.1 _ hq)))) hi (u_facts hfc hkC (u_lays hts hin hk) hi).1 h1 h2.1 (v := gv v) ?_ rfl rfl hd (kk.2.2 hE p e s m args below meth c R hc H locs k9 n9 ls hr e1 e2 hf hl)
  rw [hsl, h5 k hk]
  simp [vp_V, hfs]
/-- what may be stored -/
def gNF (ty : FieldType) (v : gV) : Prop := narrow ty (gv v) = gv v ∧ fits ty (gv v) = true
theorem gNF_i (x : Int32) : gNF .int (vI x) := ⟨rfl, rfl⟩
theorem gNF_j (x : Int64) : gNF .long (vJ x) := ⟨rfl, rfl⟩
theorem gNF_f (x : UInt32) : gNF .float (vF x) := ⟨rfl, rfl⟩
theorem gNF_o (C : String) (r : Option Nat) : gNF (.object C) (vR r) := by cases r <;> exact ⟨rfl, rfl⟩
theorem gNF_a (t : FieldType) (r : Option Nat) : gNF (.array t) (vR r) := by cases r <;> exact ⟨rfl, rfl⟩
def gok (ty : FieldType) (x : Int32) : Option Unit := if narrow ty (.int x) = .int x ∧ fits ty (.int x) = true then some () else none
theorem gok_spec {ty : FieldType} {x : Int32} {u : Unit} (h : gok ty x = some u) : gNF ty (vI x) := by
  unfold gok at h
  split at h
  · rename_i e; exact e
  · cases h
theorem gok_z0 : gok .boolean 0 = some () := by decide
theorem gok_z1 : gok .boolean 1 = some () := by decide
theorem gw_putf {C : String} {T : u_T} {N ci k idx : Nat} {v : gV} {r : Option Nat} {ty : FieldType} {σ1 : gS} (ty0 : Nat → FieldType) (hty : ∀ k, k < N → parseFieldDescriptor (T k).2.2.1 = some (ty0 k)) (hnm : ∀ a, a < N → ∀ b, b < N → a ≠ b → (T a).2.1 ≠ (T b).2.1) (hcl : gCl[ci]? = some (C, T, N)) (hk : k < N) (hin : ∀ w ∈ u_ws C T N, w ∈ lw_all) (hq : Cond.fieldLink (gm_own M) idx (T k).1 (T k).2.1 (T k).2.2.1 ∈ lw_all) (hfin : (T k).2.2.2 = false) (hds : parseFieldDescriptor (T k).2.2.1 = some ty) (hnf : gNF ty v) (h : gpf (gk E) σ r ci k (gv v) = some σ1) (hd : decode (gm_cc M) pc = .ok (.putfield idx, 3)) (kk : gW E M Q (pc + 3) L st σ1) : gW E M Q pc L (v :: vR r :: st) σ := by
  obtain ⟨a, fs, rfl, ha, hlen, hba, rfl⟩ := gpf_spec h
  refine ⟨kk.1, kk.2.1, fun hE p e s m args below meth c R hc H locs k9 n9 ls hr e1 e2 hf hl => ?_⟩
  obtain ⟨cell, h1, h2, r9, h3, h4, h5⟩ := g_obj hr ha hcl
  cases h3.symm.trans hcl
  have hts := hc.2.2.2.2.1
  have hK := gK_at hE hc
  have hap := va_apart (own := gm_own M) hts hin ty0 hty hnm hK hcl
  obtain ⟨hS, hfc, kC, hkC, hkind⟩ := hK.1 ci _ hcl
  obtain ⟨cf, kf, fi, f, hi, hsl⟩ := hS k hk
  have hba : (ge_s E).heap.size ≤ a := by rw [← hE.2.2.2.1]; exact hba
  have hst := (u_facts hfc hkC (u_lays hts hin hk) hi).1
  have hlay := hts _ (hin _ (u_in_lay hk))
  unfold u_lay at hlay
  rw [if_neg (by rw [hfin]; decide)] at hlay
  have h6 := u_store hfc hkC hkind hlay hi hds hnf.1 hnf.2
  refine W.putK hc.1 hc.2.1 (f := f) ⟨hc.2.2.2.1, hts _ hq, ⟨_, _, _, hi⟩, hst⟩ (by rw [h4]; exact h6) h1 (h2.2.2 hba) (by rw [hsl]; exact k2_hasslot (h5 k hk)) rfl rfl hd fun H1 f1 z1 o1 => ?_
  rw [hsl] at f1 ⊢
  refine kk.2.2 hE p e s m args below meth c R hc H1 _ k9 n9 ls (hr.up z1 o1 hba ?_) e1 e2 (fun z hz => ?_) hl
  · refine ⟨_, f1, h2, Or.inl ⟨(C, T, N), hcl, h4, fun j hj => ?_⟩⟩
    rw [t_set h5 hap hk (gv v) j hj]
    exact congrArg some (vp_updV_set hlen (gv v) j)
  · rcases List.mem_append.mp hz with hz | hz
    · exact hf z hz
    · rw [List.mem_singleton.mp hz]; exact hba
theorem gw_putfS {C ref : String} {T : u_T} {N ci k idx : Nat} {v : gV} {r : Option Nat} {ty : FieldType} {σ1 : gS} (ty0 : Nat → FieldType) (hty : ∀ k, k < N → parseFieldDescriptor (T k).2.2.1 = some (ty0 k)) (hnm : ∀ a, a < N → ∀ b, b < N → a ≠ b → (T a).2.1 ≠ (T b).2.1) (hcl : gCl[ci]? = some (C, T, N)) (hk : k < N) (hin : ∀ w ∈ u_ws C T N, w ∈ lw_all) (hq : Cond.fieldLink (gm_own M) idx ref (T k).2.1 (T k).2.2.1 ∈ lw_all) (hsm : Cond.sameField ref (T k).1 (T k).2.1 (T k).2.2.1 ∈ lw_all) (hfin : (T k).2.2.2 = false) (hds : parseFieldDescriptor (T k).2.2.1 = some ty) (hnf : gNF ty v) (h : gpf (gk E) σ r ci k (gv v) = some σ1) (hd : decode (gm_cc M) pc = .ok (.putfield idx, 3)) (kk : gW E M Q (pc + 3) L st σ1) : gW E M Q pc L (v :: vR r :: st) σ := by
  obtain ⟨a, fs, rfl, ha, hlen, hba, rfl⟩ := gpf_spec h
  refine ⟨kk.1, kk.2.1, fun hE p e s m args below meth c R hc H locs k9 n9 ls hr e1 e2 hf hl => ?_⟩
  obtain ⟨cell, h1, h2, r9, h3, h4, h5⟩ := g_obj hr ha hcl
  cases h3.symm.trans hcl
  have hts := hc.2.2.2.2.1
  have hK := gK_at hE hc
  have hap := va_apart (own := gm_own M) hts hin ty0 hty hnm hK hcl
  obtain ⟨hS, hfc, kC, hkC, hkind⟩ := hK.1 ci _ hcl
  obtain ⟨cf, kf, fi, f, hi, hsl⟩ := hS k hk
  have hba : (ge_s E).heap.size ≤ a := by rw [← hE.2.2.2.1]; exact hba
  have hst := (u_facts hfc hkC (u_lays hts hin hk) hi).1
  have hlay := hts _ (hin _ (u_in_lay hk))
  unfold u_lay at hlay
  rw [if_neg (by rw [hfin]; decide)] at hlay
  have h6 := u_store hfc hkC hkind hlay hi hds hnf.1 hnf.2
  refine W.putK hc.1 hc.2.1 (f := f) ⟨hc.2.2.2.1, hts _ hq, ⟨_, _, _, u_same (hts _ hsm) _ hi⟩, hst⟩ (by rw [h4]; exact h6) h1 (h2.2.2 hba) (by rw [hsl]; exact k2_hasslot (h5 k hk)) rfl rfl hd fun H1 f1 z1 o1 => ?_
  rw [hsl] at f1 ⊢
  refine kk.2.2 hE p e s m args below meth c R hc H1 _ k9 n9 ls (hr.up z1 o1 hba ?_) e1 e2 (fun z hz => ?_) hl
  · refine ⟨_, f1, h2, Or.inl ⟨(C, T, N), hcl, h4, fun j hj => ?_⟩⟩
    rw [t_set h5 hap hk (gv v) j hj]
    exact congrArg some (vp_updV_set hlen (gv v) j)
  · rcases List.mem_append.mp hz with hz | hz
    · exact hf z hz
    · rw [List.mem_singleton.mp hz]; exact hba
theorem gw_putfN {C host : String} {T : u_T} {N ci k idx : Nat} {v : gV} {r : Option Nat} {ty : FieldType} {σ1 : gS} (ty0 : Nat → FieldType) (hty : ∀ k, k < N → parseFieldDescriptor (T k).2.2.1 = some (ty0 k)) (hnm : ∀ a, a < N → ∀ b, b < N → a ≠ b → (T a).2.1 ≠ (T b).2.1) (hcl : gCl[ci]? = some (C, T, N)) (hk : k < N) (hin : ∀ w ∈ u_ws C T N, w ∈ lw_all) (hq : Cond.fieldLinkNest (gm_own M) idx (T k).1 (T k).2.1 (T k).2.2.1 host ∈ lw_tbl) (hfin : (T k).2.2.2 = false) (hds : parseFieldDescriptor (T k).2.2.1 = some ty) (hnf : gNF ty v) (h : gpf (gk E) σ r ci k (gv v) = some σ1) (hd : decode (gm_cc M) pc = .ok (.putfield idx, 3)) (kk : gW E M Q (pc + 3) L st σ1) : gW E M Q pc L (v :: vR r :: st) σ := by
  obtain ⟨a, fs, rfl, ha, hlen, hba, rfl⟩ := gpf_spec h
  refine ⟨kk.1, kk.2.1, fun hE p e s m args below meth c R hc H locs k9 n9 ls hr e1 e2 hf hl => ?_⟩
  obtain ⟨cell, h1, h2, r9, h3, h4, h5⟩ := g_obj hr ha hcl
  cases h3.symm.trans hcl
  have hts := hc.2.2.2.2.1
  have hK := gK_at hE hc
  have hap := va_apart (own := gm_own M) hts hin ty0 hty hnm hK hcl
  obtain ⟨hS, hfc, kC, hkC, hkind⟩ := hK.1 ci _ hcl
  obtain ⟨cf, kf, fi, f, hi, hsl⟩ := hS k hk
  have hba : (ge_s E).heap.size ≤ a := by rw [← hE.2.2.2.1]; exact hba
  have hst := (u_facts hfc hkC (u_lays hts hin hk) hi).1
  have hlay := hts _ (hin _ (u_in_lay hk))
  unfold u_lay at hlay
  rw [if_neg (by rw [hfin]; decide)] at hlay
  have h6 := u_store hfc hkC hkind hlay hi hds hnf.1 hnf.2
  refine va_WputK hc.1 hc.2.1 (f := f) hc.2.2.2.1 (va_Nw.use (A := args) rfl (va_Nw.warmF hc.2.2.2.2.2.2.2.2.2.1 (va_Nw.of rfl (hE.1 _ hq)))) hi hst (by rw [h4]; exact h6) h1 (h2.2.2 hba) (by rw [hsl]; exact k2_hasslot (h5 k hk)) rfl rfl hd fun H1 f1 z1 o1 => ?_
  rw [hsl] at f1 ⊢
  refine kk.2.2 hE p e s m args below meth c R hc H1 _ k9 n9 ls (hr.up z1 o1 hba ?_) e1 e2 (fun z hz => ?_) hl
  · refine ⟨_, f1, h2, Or.inl ⟨(C, T, N), hcl, h4, fun j hj => ?_⟩⟩
    rw [t_set h5 hap hk (gv v) j hj]
    exact congrArg some (vp_updV_set hlen (gv v) j)
  · rcases List.mem_append.mp hz with hz | hz
    · exact hf z hz
    · rw [List.mem_singleton.mp hz]; exact hba
theorem gw_putfF {C : String} {T : u_T} {N ci k idx : Nat} {v : gV} {r : Option Nat} {ty : FieldType} {σ1 : gS} (ty0 : Nat → FieldType) (hty : ∀ k, k < N → parseFieldDescriptor (T k).2.2.1 = some (ty0 k)) (hnm : ∀ a, a < N → ∀ b, b < N → a ≠ b → (T a).2.1 ≠ (T b).2.1) (hcl : gCl[ci]? = some (C, T, N)) (hk : k < N) (hin : ∀ w ∈ u_ws C T N, w ∈ lw_all) (hq : Cond.fieldLink (gm_own M) idx (T k).1 (T k).2.1 (T k).2.2.1 ∈ lw_all) (hfin : (T k).2.2.2 = true) (hini : gm_ini M = "<init>") (hdecl : (T k).1 = gm_own M) (hds : parseFieldDescriptor (T k).2.2.1 = some ty) (hnf : gNF ty v) (h : gpf (gk E) σ r ci k (gv v) = some σ1) (hd : decode (gm_cc M) pc = .ok (.putfield idx, 3)) (kk : gW E M Q (pc + 3) L st σ1) : gW E M Q pc L (v :: vR r :: st) σ := by
  obtain ⟨a, fs, rfl, ha, hlen, hba, rfl⟩ := gpf_spec h
  refine ⟨kk.1, kk.2.1, fun hE p e s m args below meth c R hc H locs k9 n9 ls hr e1 e2 hf hl => ?_⟩
  obtain ⟨cell, h1, h2, r9, h3, h4, h5⟩ := g_obj hr ha hcl
  cases h3.symm.trans hcl
  have hts := hc.2.2.2.2.1
  have hK := gK_at hE hc
  have hap := va_apart (own := gm_own M) hts hin ty0 hty hnm hK hcl
  obtain ⟨hS, hfc, kC, hkC, hkind⟩ := hK.1 ci _ hcl
  obtain ⟨cf, kf, fi, f, hi, hsl⟩ := hS k hk
  have hba : (ge_s E).heap.size ≤ a := by rw [← hE.2.2.2.1]; exact hba
  have hst := (u_facts hfc hkC (u_lays hts hin hk) hi).1
  have hlay := hts _ (hin _ (u_in_lay hk))
  unfold u_lay at hlay
  rw [if_pos hfin] at hlay
  have hcf : m.cls = cf := by
    obtain ⟨_, _, c', _, _, _, -, -, hf', -, -, -, hown2, -⟩ := Cond.laysFinal_spec hlay
    have e1 : c' = cf := by have := hi.symm.trans hf'; simp at this; exact this.1.symm
    rw [hdecl] at hown2
    rw [← e1]; exact Option.some.inj (hc.2.2.2.1.symm.trans hown2)
  have h6 := u_fits hfc hkC hkind (Or.inr hlay) hi hds hnf.1 hnf.2
  refine W.putFinK hc.1 hc.2.1 hc.2.2.2.1 (hts _ hq) hi hst hcf (hc.2.2.2.2.2.2.2.1.trans hini) (by rw [h4]; exact h6) h1 (h2.2.2 hba) (by rw [hsl]; exact k2_hasslot (h5 k hk)) rfl rfl hd fun H1 f1 z1 o1 => ?_
  rw [hsl] at f1 ⊢
  refine kk.2.2 hE p e s m args below meth c R hc H1 _ k9 n9 ls (hr.up z1 o1 hba ?_) e1 e2 (fun z hz => ?_) hl
  · refine ⟨_, f1, h2, Or.inl ⟨(C, T, N), hcl, h4, fun j hj => ?_⟩⟩
    rw [t_set h5 hap hk (gv v) j hj]
    exact congrArg some (vp_updV_set hlen (gv v) j)
  · rcases List.mem_append.mp hz with hz | hz
    · exact hf z hz
    · rw [List.mem_singleton.mp hz]; exact hba
theorem gw_new {C : String} {T : u_T} {N ci idx : Nat} {fs : List Value} {r : Option Nat} {σ1 : gS} (ty : Nat → FieldType) (hty : ∀ k, k < N → parseFieldDescriptor (T k).2.2.1 = some (ty k)) (hcl : gCl[ci]? = some (C, T, N)) (hin : ∀ w ∈ u_ws C T N, w ∈ lw_all) (h1 : Cond.classLink (gm_own M) idx C ∈ lw_all) (h2 : Cond.instantiable C N ∈ lw_all) (h3 : Cond.initialized C ∈ lw_all) (hfs : ∀ j, j < N → defaultValue (ty j) = vp_V fs j) (h : gnw σ ci fs N = some (r, σ1)) (hd : decode (gm_cc M) pc = .ok (.new idx, 3)) (kk : gW E M Q (pc + 3) L (vR r :: st) σ1) : gW E M Q pc L st σ := by
  obtain ⟨rfl, rfl⟩ := Prod.mk.inj (Option.some.inj h)
  have hk1 : σ.2.1 + 1 ≤ gm_zf M := kk.1
  have hk2 : σ.2.2 + N ≤ gm_nf M := kk.2.1
  refine ⟨by omega, by omega, fun hE p e s m args below meth c R hc H locs k9 n9 ls hr e1 e2 hf hl => ?_⟩
  have hKn := (gK_at hE hc).1 ci _ hcl
  have hz := hc.2.2.2.2.2.2.2.2.2.2.2.2.1
  have hn := hc.2.2.2.2.2.2.2.2.2.2.2.2.2.1
  have hts := hc.2.2.2.2.1
  refine W.newcK hc.1 hc.2.1 hc.2.2.2.1 (hts _ h1) (hts _ h2) (hts _ h3) rfl hd (by omega) (by omega) hKn.2.1 hr.1 fun H1 kC hkC f1 z1 o1 => ?_
  obtain ⟨cell, c1, c2, c3, c4⟩ := u_born ty hts hin hKn hkC f1 hty
  refine kk.2.2 hE p e s m args below meth c R hc H1 locs (k9 + 1) (n9 + N) ls (hr.push (by rw [z1, hr.1]) (fun q hq => o1 q (by rw [← hr.1]; exact hq)) ?_) (by show σ.2.1 + 1 = _; omega) (by show σ.2.2 + N = _; omega) hf hl
  exact ⟨cell, by rw [hr.1]; exact c1, ⟨by rw [c3]; exact fun h => (by cases h), fun k => by rw [c3]; exact fun h => (by cases h), fun _ => c3⟩, Or.inl ⟨(C, T, N), hcl, c2, fun j hj => (c4 j hj).trans (congrArg some (hfs j hj))⟩⟩
/-! arrays -/
def gz (t n : Nat) : vp_A := match t with
  | 0 => (n, .inl (fun _ => 0))
  | 1 => (n, .inr (.inl (fun _ => 0)))
  | 2 => (n, .inl (fun _ => 0))
  | _ => (n, .inr (.inr (.inr (.inr (fun _ => none)))))
def gal (σ : gS) (r : Option Nat) : Option Int32 := match r with
  | none => none
  | some a => match σ.1 a with
    | some (.inl q) => if q.1 < 9 then some (Int32.ofNat q.2.1) else none
    | _ => none
def gaI (σ : gS) (r : Option Nat) (t : Nat) (i : Int32) : Option Int32 := match r with
  | none => none
  | some a => match σ.1 a with
    | some (.inl (t', n, .inl f)) => if t' = t ∧ ¬ (i < 0 ∨ n ≤ i.toNatClampNeg) then some (f i.toNatClampNeg) else none
    | _ => none
def gaJ (σ : gS) (r : Option Nat) (t : Nat) (i : Int32) : Option Int64 := match r with
  | none => none
  | some a => match σ.1 a with
    | some (.inl (t', n, .inr (.inl f))) => if t' = t ∧ ¬ (i < 0 ∨ n ≤ i.toNatClampNeg) then some (f i.toNatClampNeg) else none
    | _ => none
def gaR (σ : gS) (r : Option Nat) (i : Int32) : Option (Option Nat) := match r with
  | none => none
  | some a => match σ.1 a with
    | some (.inl (t', n, .inr (.inr (.inr (.inr f))))) => if (2 < t' ∧ t' < 9) ∧ ¬ (i < 0 ∨ n ≤ i.toNatClampNeg) then some (f i.toNatClampNeg) else none
    | _ => none
theorem gal_spec {r : Option Nat} {v : Int32} (h : gal σ r = some v) : ∃ a q, r = some a ∧ σ.1 a = some (.inl q) ∧ q.1 < 9 ∧ v = Int32.ofNat q.2.1 := by
  cases r with
  | none => cases h
  | some a =>
    simp only [gal] at h
    split at h
    · rename_i q hq
      split at h
      · rename_i e; cases h; exact ⟨a, q, rfl, hq, e, rfl⟩
      · cases h
    · cases h
theorem gaI_spec {r : Option Nat} {t : Nat} {i v : Int32} (h : gaI σ r t i = some v) : ∃ a n f, r = some a ∧ σ.1 a = some (.inl (t, n, .inl f)) ∧ ¬ (i < 0 ∨ n ≤ i.toNatClampNeg) ∧ v = f i.toNatClampNeg := by
  cases r with
  | none => cases h
  | some a =>
    simp only [gaI] at h
    split at h
    · rename_i t' n f hq
      split at h
      · rename_i e; obtain ⟨rfl, e2⟩ := e; cases h; exact ⟨a, n, f, rfl, hq, e2, rfl⟩
      · cases h
    · cases h
theorem gaJ_spec {r : Option Nat} {t : Nat} {i : Int32} {v : Int64} (h : gaJ σ r t i = some v) : ∃ a n f, r = some a ∧ σ.1 a = some (.inl (t, n, .inr (.inl f))) ∧ ¬ (i < 0 ∨ n ≤ i.toNatClampNeg) ∧ v = f i.toNatClampNeg := by
  cases r with
  | none => cases h
  | some a =>
    simp only [gaJ] at h
    split at h
    · rename_i t' n f hq
      split at h
      · rename_i e; obtain ⟨rfl, e2⟩ := e; cases h; exact ⟨a, n, f, rfl, hq, e2, rfl⟩
      · cases h
    · cases h
theorem gaR_spec {r v : Option Nat} {i : Int32} (h : gaR σ r i = some v) : ∃ a t n f, r = some a ∧ σ.1 a = some (.inl (t, n, .inr (.inr (.inr (.inr f))))) ∧ (2 < t ∧ t < 9) ∧ ¬ (i < 0 ∨ n ≤ i.toNatClampNeg) ∧ v = f i.toNatClampNeg := by
  cases r with
  | none => cases h
  | some a =>
    simp only [gaR] at h
    split at h
    · rename_i t' n f hq
      split at h
      · rename_i e; cases h; exact ⟨a, t', n, f, rfl, hq, e.1, e.2, rfl⟩
      · cases h
    · cases h
theorem gaI_eq {a t n : Nat} {f : Nat → Int32} {i : Int32} (h : σ.1 a = some (.inl (t, n, .inl f))) (hi : ¬ (i < 0 ∨ n ≤ i.toNatClampNeg)) : gaI σ (some a) t i = some (f i.toNatClampNeg) := by
  simp only [gaI, h]
  rw [if_pos ⟨trivial, hi⟩]
theorem gaJ_eq {a t n : Nat} {f : Nat → Int64} {i : Int32} (h : σ.1 a = some (.inl (t, n, .inr (.inl f)))) (hi : ¬ (i < 0 ∨ n ≤ i.toNatClampNeg)) : gaJ σ (some a) t i = some (f i.toNatClampNeg) := by
  simp only [gaJ, h]
  rw [if_pos ⟨trivial, hi⟩]
theorem gaR_eq {a t n : Nat} {f : Nat → Option Nat} {i : Int32} (h : σ.1 a = some (.inl (t, n, .inr (.inr (.inr (.inr f)))))) (ht : 2 < t ∧ t < 9) (hi : ¬ (i < 0 ∨ n ≤ i.toNatClampNeg)) : gaR σ (some a) i = some (f i.toNatClampNeg) := by
  simp only [gaR, h]
  rw [if_pos ⟨ht, hi⟩]
theorem gal_eq {a : Nat} {q : Nat × vp_A} (h : σ.1 a = some (.inl q)) (ht : q.1 < 9) : gal σ (some a) = some (Int32.ofNat q.2.1) := by
  simp only [gal, h]
  rw [if_pos ht]
theorem gTy_lt {t : Nat} (h : t < 9) : ∃ ty, gTyL[t]? = some ty := ⟨_, List.getElem?_eq_getElem (l := gTyL) h⟩
theorem gTy_at {dA : Nat → ClassId} {t : Nat} {ty : FieldType} (h : gTyL[t]? = some ty) : (gTys dA)[t]? = some (dA t, ty) := by
  match t, h with
  | 0, h => cases h; rfl
  | 1, h => cases h; rfl
  | 2, h => cases h; rfl
  | 3, h => cases h; rfl
  | 4, h => cases h; rfl
  | 5, h => cases h; rfl
  | 6, h => cases h; rfl
  | 7, h => cases h; rfl
  | 8, h => cases h; rfl
  | n + 9, h => cases h
theorem g_isArr {s : State} {tys : List (ClassId × FieldType)} {base a t : Nat} {ty : FieldType} {cell : Cell} {dA : Nat → ClassId} (hK : va_K (ge_D E) gCl (gTys dA) s) (ht : gTyL[t]? = some ty) (hv : g_vm base a cell) (hc : cell.cls = dA t) : s.isArrayOf cell ty :=
  ⟨hv.2.1, by rw [hc]; exact ((hK.2 t _ (gTy_at ht)).1 0 (fun _ => .null)).2⟩
theorem gw_alen {r : Option Nat} {v : Int32} (h : gal σ r = some v) (hd : decode (gm_cc M) pc = .ok (.arraylength, 1)) (kk : gW E M Q (pc + 1) L (vI v :: st) σ) : gW E M Q pc L (vR r :: st) σ := by
  obtain ⟨a, q, rfl, hq, h9, rfl⟩ := gal_spec h
  obtain ⟨ty, hty⟩ := gTy_lt h9
  refine ⟨kk.1, kk.2.1, fun hE p e s m args below meth c R hc H locs k9 n9 ls hr e1 e2 hf hl => ?_⟩
  obtain ⟨cell, g1, g2, g3, g4, g5, g6, g7⟩ := hr.2.2.2 a _ hq
  exact W.alen hc.1 hc.2.1 g1 (g_isArr (tys := []) (gK_at hE hc) hty g2 g3) g5 rfl rfl hd (kk.2.2 hE p e s m args below meth c R hc H locs k9 n9 ls hr e1 e2 hf hl)
theorem gw_iaload {r : Option Nat} {i : Int32} {v : Int32} (h : gaI σ r 0 i = some v) (hd : decode (gm_cc M) pc = .ok (.iaload, 1)) (kk : gW E M Q (pc + 1) L (vI v :: st) σ) : gW E M Q pc L (vI i :: vR r :: st) σ := by
  obtain ⟨a, n, f, rfl, hq, hi, rfl⟩ := gaI_spec h
  refine ⟨kk.1, kk.2.1, fun hE p e s m args below meth c R hc H locs k9 n9 ls hr e1 e2 hf hl => ?_⟩
  obtain ⟨cell, g1, g2, g3, g4, g5, g6, g7⟩ := hr.2.2.2 a _ hq
  have hlt : i.toNatClampNeg < n := Nat.not_le.mp fun q => hi (Or.inr q)
  have g4 : n ≤ cell.slots.size := g4
  exact W.iald (v := .int (f i.toNatClampNeg)) hc.1 hc.2.1 g1 (g_isArr (tys := []) (gK_at hE hc) (t := 0) rfl g2 g3) g2.1 (fun q => hi (q.imp id (fun z => Nat.le_trans g4 z))) (g6 _ hlt) rfl rfl hd (kk.2.2 hE p e s m args below meth c R hc H locs k9 n9 ls hr e1 e2 hf hl)
theorem gw_baload {r : Option Nat} {i : Int32} {v : Int32} (h : gaI σ r 2 i = some v) (hd : decode (gm_cc M) pc = .ok (.baload, 1)) (kk : gW E M Q (pc + 1) L (vI v :: st) σ) : gW E M Q pc L (vI i :: vR r :: st) σ := by
  obtain ⟨a, n, f, rfl, hq, hi, rfl⟩ := gaI_spec h
  refine ⟨kk.1, kk.2.1, fun hE p e s m args below meth c R hc H locs k9 n9 ls hr e1 e2 hf hl => ?_⟩
  obtain ⟨cell, g1, g2, g3, g4, g5, g6, g7⟩ := hr.2.2.2 a _ hq
  have hlt : i.toNatClampNeg < n := Nat.not_le.mp fun q => hi (Or.inr q)
  have g4 : n ≤ cell.slots.size := g4
  exact W.bald (v := .int (f i.toNatClampNeg)) hc.1 hc.2.1 g1 (g_isArr (tys := []) (gK_at hE hc) (t := 2) rfl g2 g3) g2.1 (fun q => hi (q.imp id (fun z => Nat.le_trans g4 z))) (g6 _ hlt) rfl rfl hd (kk.2.2 hE p e s m args below meth c R hc H locs k9 n9 ls hr e1 e2 hf hl)
theorem gw_laload {r : Option Nat} {i : Int32} {v : Int64} (h : gaJ σ r 1 i = some v) (hd : decode (gm_cc M) pc = .ok (.laload, 1)) (kk : gW E M Q (pc + 1) L (vJ v :: st) σ) : gW E M Q pc L (vI i :: vR r :: st) σ := by
  obtain ⟨a, n, f, rfl, hq, hi, rfl⟩ := gaJ_spec h
  refine ⟨kk.1, kk.2.1, fun hE p e s m args below meth c R hc H locs k9 n9 ls hr e1 e2 hf hl => ?_⟩
  obtain ⟨cell, g1, g2, g3, g4, g5, g6, g7⟩ := hr.2.2.2 a _ hq
  have hlt : i.toNatClampNeg < n := Nat.not_le.mp fun q => hi (Or.inr q)
  have g4 : n ≤ cell.slots.size := g4
  exact W.lald (v := .long (f i.toNatClampNeg)) hc.1 hc.2.1 g1 (g_isArr (tys := []) (gK_at hE hc) (t := 1) rfl g2 g3) g2.1 (fun q => hi (q.imp id (fun z => Nat.le_trans g4 z))) (g6 _ hlt) rfl rfl hd (kk.2.2 hE p e s m args below meth c R hc H locs k9 n9 ls hr e1 e2 hf hl)
theorem gw_aaload {r v : Option Nat} {i : Int32} (h : gaR σ r i = some v) (hd : decode (gm_cc M) pc = .ok (.aaload, 1)) (kk : gW E M Q (pc + 1) L (vR v :: st) σ) : gW E M Q pc L (vI i :: vR r :: st) σ := by
  obtain ⟨a, t, n, f, rfl, hq, ht, hi, rfl⟩ := gaR_spec h
  obtain ⟨ty, hty⟩ := gTy_lt ht.2
  have href : ty.isReference = true := by
    match t, ht, hty with
    | 3, _, hty => cases hty; rfl
    | 4, _, hty => cases hty; rfl
    | 5, _, hty => cases hty; rfl
    | 6, _, hty => cases hty; rfl
    | 7, _, hty => cases hty; rfl
    | 8, _, hty => cases hty; rfl
  refine ⟨kk.1, kk.2.1, fun hE p e s m args below meth c R hc H locs k9 n9 ls hr e1 e2 hf hl => ?_⟩
  obtain ⟨cell, g1, g2, g3, g4, g5, g6, g7⟩ := hr.2.2.2 a _ hq
  have hlt : i.toNatClampNeg < n := Nat.not_le.mp fun q => hi (Or.inr q)
  have g4 : n ≤ cell.slots.size := g4
  exact W.aald (v := va_rf (f i.toNatClampNeg)) hc.1 hc.2.1 g1 (g_isArr (tys := []) (gK_at hE hc) hty g2 g3) href g2.1 (fun q => hi (q.imp id (fun z => Nat.le_trans g4 z))) (g6 _ hlt) rfl rfl hd (kk.2.2 hE p e s m args below meth c R hc H locs k9 n9 ls hr e1 e2 hf hl)
/-! array stores -/
theorem g_at.store {a t n j : Nat} {x x' : (Nat → Int32) ⊕ (Nat → Int64) ⊕ (Nat → UInt32) ⊕ (Nat → UInt64) ⊕ (Nat → Option Nat)} {v : Value} {cell : Cell} {H1 : Heap} (g2 : g_vm (ge_s E).heap.size a cell) (g3 : cell.cls = ge_A E t) (g4 : n ≤ cell.slots.size) (g5 : cell.slots.size.toInt32 = Int32.ofNat n) (g6 : ∀ j, j < n → cell.slots[j]? = some (g_val (n, x) j)) (hj : j < n) (g7 : (ge_s E).heap.size ≤ a → cell = vp_cell (ge_A E t) (n, x)) (hv : ∀ i, g_val (n, x') i = if i = j then v else g_val (n, x) i) (h1 : H1[a]? = some (cell.setSlot j v)) : g_at E a (.inl (t, n, x')) H1 := by
  refine ⟨_, h1, g2, g3, by rw [k2_slotsz]; exact g4, by rw [k2_slotsz]; exact g5, fun i hi => ?_, fun hb => ?_⟩
  · show _ = some (g_val (n, x') i)
    rw [hv]
    by_cases e : i = j
    · subst e
      rw [if_pos rfl, Cell.slots_setSlot_self _ (Nat.lt_of_lt_of_le hj g4)]
    · rw [if_neg e, slot_ne _ _ (Ne.symm e)]
      exact g6 i hi
  · rw [g7 hb, vp_cell_g, vp_cell_g, arrV_store]
    have e : updV (g_val (n, x)) j v = g_val (n, x') := by
      funext i
      rw [hv]
      rfl
    rw [e]
def gsI (κ : gK) (σ : gS) (r : Option Nat) (i x : Int32) : Option gS := match r with
  | none => none
  | some a => match σ.1 a with
    | some (.inl (t', n, .inl f)) => if t' = 0 ∧ ¬ (i < 0 ∨ n ≤ i.toNatClampNeg) ∧ κ.1 ≤ a then some (gup σ a (.inl (0, n, .inl (va_up f i.toNatClampNeg x)))) else none
    | _ => none
def gsB (κ : gK) (σ : gS) (r : Option Nat) (i x : Int32) : Option gS := match r with
  | none => none
  | some a => match σ.1 a with
    | some (.inl (t', n, .inl f)) => if t' = 2 ∧ ¬ (i < 0 ∨ n ≤ i.toNatClampNeg) ∧ κ.1 ≤ a then some (gup σ a (.inl (2, n, .inl (va_up f i.toNatClampNeg x.toInt8.toInt32)))) else none
    | _ => none
def gsJ (κ : gK) (σ : gS) (r : Option Nat) (i : Int32) (x : Int64) : Option gS := match r with
  | none => none
  | some a => match σ.1 a with
    | some (.inl (t', n, .inr (.inl f))) => if t' = 1 ∧ ¬ (i < 0 ∨ n ≤ i.toNatClampNeg) ∧ κ.1 ≤ a then some (gup σ a (.inl (1, n, .inr (.inl (va_up f i.toNatClampNeg x))))) else none
    | _ => none
theorem gsI_spec {κ : gK} {r : Option Nat} {i : Int32} {x : Int32} {σ1 : gS} (h : gsI κ σ r i x = some σ1) : ∃ a n f, r = some a ∧ σ.1 a = some (.inl (0, n, .inl f)) ∧ ¬ (i < 0 ∨ n ≤ i.toNatClampNeg) ∧ κ.1 ≤ a ∧ σ1 = gup σ a (.inl (0, n, .inl (va_up f i.toNatClampNeg x))) := by
  cases r with
  | none => cases h
  | some a =>
    simp only [gsI] at h
    split at h
    · rename_i t' n f hq
      split at h
      · rename_i e; obtain ⟨rfl, e2, e3⟩ := e; cases h; exact ⟨a, n, f, rfl, hq, e2, e3, rfl⟩
      · cases h
    · cases h
theorem gsI_eq {κ : gK} {a n : Nat} {f : Nat → Int32} {i : Int32} {x : Int32} (h : σ.1 a = some (.inl (0, n, .inl f))) (hi : ¬ (i < 0 ∨ n ≤ i.toNatClampNeg)) (ha : κ.1 ≤ a) : gsI κ σ (some a) i x = some (gup σ a (.inl (0, n, .inl (va_up f i.toNatClampNeg x)))) := by
  simp only [gsI, h]
  rw [if_pos ⟨trivial, hi, ha⟩]
theorem gw_iastore {r : Option Nat} {i : Int32} {x : Int32} {σ1 : gS} (h : gsI (gk E) σ r i x = some σ1) (hd : decode (gm_cc M) pc = .ok (.iastore, 1)) (kk : gW E M Q (pc + 1) L st σ1) : gW E M Q pc L (vI x :: vI i :: vR r :: st) σ := by
  obtain ⟨a, n, f, rfl, hq, hi, hba, rfl⟩ := gsI_spec h
  refine ⟨kk.1, kk.2.1, fun hE p e s m args below meth c R hc H locs k9 n9 ls hr e1 e2 hf hl => ?_⟩
  obtain ⟨cell, g1, g2, g3, g4, g5, g6, g7⟩ := hr.2.2.2 a _ hq
  have hlt : i.toNatClampNeg < n := Nat.not_le.mp fun q => hi (Or.inr q)
  have g4 : n ≤ cell.slots.size := g4
  have hba : (ge_s E).heap.size ≤ a := by rw [← hE.2.2.2.1]; exact hba
  refine W.iast hc.1 hc.2.1 g1 (g_isArr (tys := []) (gK_at hE hc) (t := 0) rfl g2 g3) g2.1 (fun q => hi (q.imp id (fun z => Nat.le_trans g4 z))) rfl rfl hd fun H1 f1 z1 o1 => ?_
  refine kk.2.2 hE p e s m args below meth c R hc H1 _ k9 n9 ls (hr.up z1 o1 hba (g_at.store (v := .int x) g2 g3 g4 g5 g6 hlt g7 (fun j => ?_) f1)) e1 e2 (fun z hz => ?_) hl
  · by_cases e : j = i.toNatClampNeg
    · simp [g_val, va_up, e]
    · simp [g_val, va_up, e]
  · rcases List.mem_append.mp hz with hz | hz
    · exact hf z hz
    · rw [List.mem_singleton.mp hz]; exact hba
theorem gsB_spec {κ : gK} {r : Option Nat} {i : Int32} {x : Int32} {σ1 : gS} (h : gsB κ σ r i x = some σ1) : ∃ a n f, r = some a ∧ σ.1 a = some (.inl (2, n, .inl f)) ∧ ¬ (i < 0 ∨ n ≤ i.toNatClampNeg) ∧ κ.1 ≤ a ∧ σ1 = gup σ a (.inl (2, n, .inl (va_up f i.toNatClampNeg x.toInt8.toInt32))) := by
  cases r with
  | none => cases h
  | some a =>
    simp only [gsB] at h
    split at h
    · rename_i t' n f hq
      split at h
      · rename_i e; obtain ⟨rfl, e2, e3⟩ := e; cases h; exact ⟨a, n, f, rfl, hq, e2, e3, rfl⟩
      · cases h
    · cases h
theorem gsB_eq {κ : gK} {a n : Nat} {f : Nat → Int32} {i : Int32} {x : Int32} (h : σ.1 a = some (.inl (2, n, .inl f))) (hi : ¬ (i < 0 ∨ n ≤ i.toNatClampNeg)) (ha : κ.1 ≤ a) : gsB κ σ (some a) i x = some (gup σ a (.inl (2, n, .inl (va_up f i.toNatClampNeg x.toInt8.toInt32)))) := by
  simp only [gsB, h]
  rw [if_pos ⟨trivial, hi, ha⟩]
theorem gw_bastore {r : Option Nat} {i : Int32} {x : Int32} {σ1 : gS} (h : gsB (gk E) σ r i x = some σ1) (hd : decode (gm_cc M) pc = .ok (.bastore, 1)) (kk : gW E M Q (pc + 1) L st σ1) : gW E M Q pc L (vI x :: vI i :: vR r :: st) σ := by
  obtain ⟨a, n, f, rfl, hq, hi, hba, rfl⟩ := gsB_spec h
  refine ⟨kk.1, kk.2.1, fun hE p e s m args below meth c R hc H locs k9 n9 ls hr e1 e2 hf hl => ?_⟩
  obtain ⟨cell, g1, g2, g3, g4, g5, g6, g7⟩ := hr.2.2.2 a _ hq
  have hlt : i.toNatClampNeg < n := Nat.not_le.mp fun q => hi (Or.inr q)
  have g4 : n ≤ cell.slots.size := g4
  have hba : (ge_s E).heap.size ≤ a := by rw [← hE.2.2.2.1]; exact hba
  refine W.bast hc.1 hc.2.1 g1 (g_isArr (tys := []) (gK_at hE hc) (t := 2) rfl g2 g3) g2.1 (fun q => hi (q.imp id (fun z => Nat.le_trans g4 z))) rfl rfl hd fun H1 f1 z1 o1 => ?_
  refine kk.2.2 hE p e s m args below meth c R hc H1 _ k9 n9 ls (hr.up z1 o1 hba (g_at.store (v := .int x.toInt8.toInt32) g2 g3 g4 g5 g6 hlt g7 (fun j => ?_) f1)) e1 e2 (fun z hz => ?_) hl
  · by_cases e : j = i.toNatClampNeg
    · simp [g_val, va_up, e]
    · simp [g_val, va_up, e]
  · rcases List.mem_append.mp hz with hz | hz
    · exact hf z hz
    · rw [List.mem_singleton.mp hz]; exact hba
theorem gsJ_spec {κ : gK} {r : Option Nat} {i : Int32} {x : Int64} {σ1 : gS} (h : gsJ κ σ r i x = some σ1) : ∃ a n f, r = some a ∧ σ.1 a = some (.inl (1, n, .inr (.inl f))) ∧ ¬ (i < 0 ∨ n ≤ i.toNatClampNeg) ∧ κ.1 ≤ a ∧ σ1 = gup σ a (.inl (1, n, .inr (.inl (va_up f i.toNatClampNeg x)))) := by
  cases r with
  | none => cases h
  | some a =>
    simp only [gsJ] at h
    split at h
    · rename_i t' n f hq
      split at h
      · rename_i e; obtain ⟨rfl, e2, e3⟩ := e; cases h; exact ⟨a, n, f, rfl, hq, e2, e3, rfl⟩
      · cases h
    · cases h
theorem gsJ_eq {κ : gK} {a n : Nat} {f : Nat → Int64} {i : Int32} {x : Int64} (h : σ.1 a = some (.inl (1, n, .inr (.inl f)))) (hi : ¬ (i < 0 ∨ n ≤ i.toNatClampNeg)) (ha : κ.1 ≤ a) : gsJ κ σ (some a) i x = some (gup σ a (.inl (1, n, .inr (.inl (va_up f i.toNatClampNeg x))))) := by
  simp only [gsJ, h]
  rw [if_pos ⟨trivial, hi, ha⟩]
theorem gw_lastore {r : Option Nat} {i : Int32} {x : Int64} {σ1 : gS} (h : gsJ (gk E) σ r i x = some σ1) (hd : decode (gm_cc M) pc = .ok (.lastore, 1)) (kk : gW E M Q (pc + 1) L st σ1) : gW E M Q pc L (vJ x :: vI i :: vR r :: st) σ := by
  obtain ⟨a, n, f, rfl, hq, hi, hba, rfl⟩ := gsJ_spec h
  refine ⟨kk.1, kk.2.1, fun hE p e s m args below meth c R hc H locs k9 n9 ls hr e1 e2 hf hl => ?_⟩
  obtain ⟨cell, g1, g2, g3, g4, g5, g6, g7⟩ := hr.2.2.2 a _ hq
  have hlt : i.toNatClampNeg < n := Nat.not_le.mp fun q => hi (Or.inr q)
  have g4 : n ≤ cell.slots.size := g4
  have hba : (ge_s E).heap.size ≤ a := by rw [← hE.2.2.2.1]; exact hba
  refine W.last hc.1 hc.2.1 g1 (g_isArr (tys := []) (gK_at hE hc) (t := 1) rfl g2 g3) g2.1 (fun q => hi (q.imp id (fun z => Nat.le_trans g4 z))) rfl rfl hd fun H1 f1 z1 o1 => ?_
  refine kk.2.2 hE p e s m args below meth c R hc H1 _ k9 n9 ls (hr.up z1 o1 hba (g_at.store (v := .long x) g2 g3 g4 g5 g6 hlt g7 (fun j => ?_) f1)) e1 e2 (fun z hz => ?_) hl
  · by_cases e : j = i.toNatClampNeg
    · simp [g_val, va_up, e]
    · simp [g_val, va_up, e]
  · rcases List.mem_append.mp hz with hz | hz
    · exact hf z hz
    · rw [List.mem_singleton.mp hz]; exact hba
end GW
theorem gx_ofW {l : Launch} {y : MethodName} {ws ws' : List Cond} {rm : Room} {Pc : Array Value → State → Prop} {Qc : Array Value → State → Outcome → State → Prop} {XC : String → State → State → Prop} {mc ms : Nat} {free : Addr → Prop} {cc : ByteArray} {maxL : Nat} {ret : Option FieldType}
    (hy : plainFor y = true) (hw : ws = Cond.code y cc maxL ret :: ws')
    (body : ∀ p e s m args below meth c s₁, BodyLoose p l y (headSpec ws rm) cc maxL ret e s m args below meth c s₁ → c.maxLocals = maxL → (∀ x ∈ c.exceptionTable.toList, False) → Pc args s →
      W p l e (headSpec ws rm).room s m args below meth c s.heap [] 0 0 (vx_MQ below Qc XC args s mc ms free) (entryFrame m args maxL)) : vx_Met l y ws rm Pc Qc XC mc ms free := by
  refine MetFree.of_bodySF (code := cc) (maxLocals := maxL) (ret := ret) hy ?_ ?_
  · intro args s m h hn
    obtain ⟨meth, c, h1, h2, h3, h4, h5, h6, -, -⟩ := Cond.code_spec hn (atoms_spec (ws := ws) h _ (by rw [hw]; exact List.mem_cons_self))
    exact ⟨meth, c, h1, h2, h3, h4, h5, h6⟩
  · intro p e s m args below meth c s₁ B hml hP _
    have hh0 : s₁.heap = s.heap := by rw [B.state]; rfl
    have ht : ∀ x ∈ c.exceptionTable.toList, False := by
      obtain ⟨meth9, c9, h1, h2, -, -, -, -, h7, -⟩ := Cond.code_spec B.named (atoms_spec (ws := ws) B.pre _ (by rw [hw]; exact List.mem_cons_self))
      cases Option.some.inj (h1.symm.trans B.method)
      cases Option.some.inj (h2.symm.trans (Stand.of_body B).code)
      intro x hx
      rw [Array.isEmpty_iff.mp h7] at hx
      cases hx
    obtain ⟨t, a1, o, b1, b2, b3⟩ := body p e s m args below meth c s₁ B hml ht hP s₁ hh0 (Stand.of_body B)
    exact ⟨t, o, a1, b1, b2, b3⟩

/-! CALLS, ENTRIES, ENDS over the pure heap -/
section GC
variable {E : gE} {M : gM} {Q : gQ} {pc : Nat} {L : List (Nat × gV)} {st : List gV} {σ σ1 : gS}
def gQm (E : gE) (M : gM) (out : gOut) (σ' : gS) : gQ := fun below args s => vx_MQ below (gQc E out σ') (gXC E out σ') args s (gm_zf M - gm_z0 M) (gm_nf M - gm_n0 M) (gFree E)
theorem lw_t {w : Cond} (h : w ∈ lw_all) : w ∈ lw_tbl := (List.mem_filter.mp h).1
theorem g_selP {C : String} {y : MethodName} {s : State} {args : Array Value} {n : Nat} (hy : y.cls ≠ "java/lang/invoke/MethodHandle" ∧ y.cls ≠ "java/lang/invoke/VarHandle") (hins : (Cond.instantiable C n).before args s = true) (hpriv : (Cond.privateMethod y).before args s = true) (hinst : (Cond.instanceMethod y).before args s = true) (hsm : (Cond.sameMethod y.cls y.cls y.name y.desc).before args s = true) : (Cond.selects C y y).before args s = true := by
  obtain ⟨c, k, hc, hk, -, hniab, -, -⟩ := Cond.instantiable_spec hins
  obtain ⟨mk, methM, hnamed, hmethM, -, -⟩ := Cond.instanceMethod_spec hinst
  have hfound : s.methodFound? y.cls y.name y.desc = some mk := State.methodFound?_of_named hnamed hy
  obtain ⟨-, kY, hkY, hni⟩ := Cond.sameMethod_spec (findClass_of_methodNamed hnamed) hfound hsm
  have hsel : selectMethod {} s.vm c mk = .method mk := selectMethod_private hmethM (Cond.privateMethod_at hpriv mk methM hnamed hmethM)
  simp only [Cond.before, Cond.holds, Cond.value, hc, hfound, hnamed, hsel, hkY]
  simp; exact hni
theorem g_nost {v : VmData} (h : ∀ k, v ≠ .statics k) : v.isStatics = false := by
  cases v <;> first | rfl | exact absurd rfl (h _)
theorem gCtx_cells {p : Program} {s : State} {m : MethodId} {args : Array Value} {meth : Method} {c : Code} {R : Room} (hc : gCtx E M p s m args meth c R) : gm_zf M = gm_z0 M + R.cells := hc.2.2.2.2.2.2.2.2.2.2.2.2.1
theorem gCtx_slots {p : Program} {s : State} {m : MethodId} {args : Array Value} {meth : Method} {c : Code} {R : Room} (hc : gCtx E M p s m args meth c R) : gm_nf M = gm_n0 M + R.slots := hc.2.2.2.2.2.2.2.2.2.2.2.2.2.1
theorem gCtx_frames {p : Program} {s : State} {m : MethodId} {args : Array Value} {meth : Method} {c : Code} {R : Room} (hc : gCtx E M p s m args meth c R) : gm_d M ≤ R.frames := hc.2.2.2.2.2.2.2.2.2.2.1
theorem gCtx_locals {p : Program} {s : State} {m : MethodId} {args : Array Value} {meth : Method} {c : Code} {R : Room} (hc : gCtx E M p s m args meth c R) : 100 * gm_d M ≤ R.locals := hc.2.2.2.2.2.2.2.2.2.2.2.1
theorem gCtx_warm {p : Program} {s : State} {m : MethodId} {args : Array Value} {meth : Method} {c : Code} {R : Room} (hc : gCtx E M p s m args meth c R) : (ge_s E).WarmedH s.vm := hc.2.2.2.2.2.2.2.2.2.1
theorem gCtx_base {p : Program} {s : State} {m : MethodId} {args : Array Value} {meth : Method} {c : Code} {R : Room} (hc : gCtx E M p s m args meth c R) : ∀ q, q < (ge_s E).heap.size → s.heap[q]? = (ge_s E).heap[q]? := hc.2.2.2.2.2.2.2.2.2.2.2.2.2.2.1
/-- behind a call: it goes on, or an exception is on its way -/
def gCont (E : gE) (M : gM) (Q : gQ) (pc n : Nat) (L : List (Nat × gV)) (rest : List gV) (out : gOut) (σ1 : gS) : Prop := match out with
  | .inl v => gW E M Q (pc + n) L (v.toList ++ rest) σ1
  | .inr C => gX E M Q pc L σ1 C
theorem gCont_b {n : Nat} {rest : List gV} {out : gOut} (h : gCont E M Q pc n L rest out σ1) : σ1.2.1 ≤ gm_zf M ∧ σ1.2.2 ≤ gm_nf M := by
  cases out with
  | inl v => exact ⟨h.1, h.2.1⟩
  | inr C => exact ⟨h.1, h.2.1⟩
theorem g_recv {C : String} {T : u_T} {N ci a : Nat} {fs : List Value} {H : Heap} {s : State} (hK : va_K (ge_D E) gCl (gTys (ge_A E)) s) (hr : gRel E σ H) (hcl : gCl[ci]? = some (C, T, N)) (ha : σ.1 a = some (.inr (ci, fs))) : ∃ cell : Cell, H[a]? = some cell ∧ cell.vm.isStatics = false ∧ s.vm.findClass C = some cell.cls := by
  obtain ⟨cell, h1, h2, r9, h3, h4, h5⟩ := g_obj hr ha hcl
  exact ⟨cell, h1, g_nost h2.2.1, by rw [h4]; exact (hK.1 ci _ hcl).2.1⟩
theorem g_pre {args : List gV} {H : Heap} {s : State} (hW : (ge_s E).WarmedH s.vm) (hr : gRel E σ H) : ∀ U : State, U.heap = H → s.WarmedH U.vm → gPc E args σ (args.map gv).toArray U :=
  fun U hU hw => ⟨rfl, State.WarmedH.trans hW hw, by rw [hU]; exact hr⟩
theorem g_stk (As : List gV) (x : gV) (rest : List gV) : (As.reverse ++ x :: rest).map gv = (As.map gv).reverse ++ gv x :: rest.map gv := by
  rw [List.map_append, List.map_reverse]; rfl
theorem g_stk0 (As rest : List gV) : (As.reverse ++ rest).map gv = (As.map gv).reverse ++ rest.map gv := by
  rw [List.map_append, List.map_reverse]
theorem g_room {m : MethodId} {ls : Array Slot} {stv : List Value} {rest : List gV} (h : gSum rest ≤ 8) : 2 * (F0 m pc ls stv).monitorRoom + ((rest.map gv).map fun v => v.category).sum ≤ 8 := by
  show 2 * 0 + _ ≤ 8
  rw [gSum_eq]
  omega
theorem gw_run {mc ms : Nat} {out : gOut} {rest : List gV} {stv : List Value} {a : Array Value} (hE : gEnv E) {p : Program} {e : Env} {s : State} {m : MethodId} {args : Array Value} {below : List Frame} {meth : Method} {c : Code} {R : Room} (hc : gCtx E M p s m args meth c R) {H : Heap} {locs : List Loc} {k9 n9 : Nat} {ls : Array Slot} (e1 : σ1.2.1 = gm_z0 M + (k9 + mc)) (e2 : σ1.2.2 = gm_n0 M + (n9 + ms)) (hf : ∀ z ∈ locs, (ge_s E).heap.size ≤ z.base) (hl : lv_has ls (gm_nL M) (gL L))
    (hrun : vx_Run p (ge_l E) e R s m args below meth c H locs k9 n9 mc ms (F0 m pc ls stv) (rest.map gv) (gQc E out σ1 a) (gXC E out σ1) (gFree E)) (kk : gCont E M Q pc 3 L rest out σ1) : W p (ge_l E) e R s m args below meth c H locs k9 n9 (Q below args s) (F0 m pc ls stv) := by
  intro T hT X
  rcases hrun T hT X with ⟨v', st₀, t, T', Lc, h0, X', hL, f1, f2, ⟨v, rfl, hv, hrel⟩, goes⟩ | ⟨q, st₀, t, T', Lc, C, ce, h0, X', hL, f1, f2, ⟨rfl, hrel⟩, hce, hcv, hcl, st⟩
  · cases hv
    have kk : gW E M Q (pc + 3) L (v.toList ++ rest) σ1 := kk
    have hs : (v.toList ++ rest).map gv = (v.map gv).toList ++ rest.map gv := by cases v <;> rfl
    have k2 := kk.2.2 hE p e s m args below meth c R hc T'.heap (locs ++ Lc) (k9 + mc) (n9 + ms) ls (by rw [f1]; exact hrel) e1 e2 (fun z hz => (List.mem_append.mp hz).elim (hf z) (hL z)) hl
    rw [hs] at k2
    obtain ⟨t2, a1, b1⟩ := k2 T' rfl X'
    exact ⟨t2, goes t2 a1, b1⟩
  · have kk : gX E M Q pc L σ1 C := kk
    obtain ⟨t2, a1, b1⟩ := kk.2.2 hE p e s m args below meth c R hc T'.heap (locs ++ Lc) (k9 + mc) (n9 + ms) ls (rest.map gv) q ce (by rw [f1]; exact hrel) e1 e2 (fun z hz => (List.mem_append.mp hz).elim (hf z) (hL z)) hl (by rw [f1]; exact hce) hcv hcl T' rfl X'
    exact ⟨t2, st.trans a1, b1⟩
theorem gw_run5 {mc ms : Nat} {out : gOut} {rest : List gV} {stv : List Value} {a : Array Value} (hE : gEnv E) {p : Program} {e : Env} {s : State} {m : MethodId} {args : Array Value} {below : List Frame} {meth : Method} {c : Code} {R : Room} (hc : gCtx E M p s m args meth c R) {H : Heap} {locs : List Loc} {k9 n9 : Nat} {ls : Array Slot} (e1 : σ1.2.1 = gm_z0 M + (k9 + mc)) (e2 : σ1.2.2 = gm_n0 M + (n9 + ms)) (hf : ∀ z ∈ locs, (ge_s E).heap.size ≤ z.base) (hl : lv_has ls (gm_nL M) (gL L))
    (hrun : vx_Run5 p (ge_l E) e R s m args below meth c H locs k9 n9 mc ms (F0 m pc ls stv) (rest.map gv) (gQc E out σ1 a) (gXC E out σ1) (gFree E)) (kk : gCont E M Q pc 5 L rest out σ1) : W p (ge_l E) e R s m args below meth c H locs k9 n9 (Q below args s) (F0 m pc ls stv) := by
  intro T hT X
  rcases hrun T hT X with ⟨v', st₀, t, T', Lc, h0, X', hL, f1, f2, ⟨v, rfl, hv, hrel⟩, goes⟩ | ⟨q, st₀, t, T', Lc, C, ce, h0, X', hL, f1, f2, ⟨rfl, hrel⟩, hce, hcv, hcl, st⟩
  · cases hv
    have kk : gW E M Q (pc + 5) L (v.toList ++ rest) σ1 := kk
    have hs : (v.toList ++ rest).map gv = (v.map gv).toList ++ rest.map gv := by cases v <;> rfl
    have k2 := kk.2.2 hE p e s m args below meth c R hc T'.heap (locs ++ Lc) (k9 + mc) (n9 + ms) ls (by rw [f1]; exact hrel) e1 e2 (fun z hz => (List.mem_append.mp hz).elim (hf z) (hL z)) hl
    rw [hs] at k2
    obtain ⟨t2, a1, b1⟩ := k2 T' rfl X'
    exact ⟨t2, goes t2 a1, b1⟩
  · have kk : gX E M Q pc L σ1 C := kk
    obtain ⟨t2, a1, b1⟩ := kk.2.2 hE p e s m args below meth c R hc T'.heap (locs ++ Lc) (k9 + mc) (n9 + ms) ls (rest.map gv) q ce (by rw [f1]; exact hrel) e1 e2 (fun z hz => (List.mem_append.mp hz).elim (hf z) (hL z)) hl (by rw [f1]; exact hce) hcv hcl T' rfl X'
    exact ⟨t2, st.trans a1, b1⟩
theorem gw_callV {C : String} {T : u_T} {N ci idx nL' d' : Nat} {y : MethodName} {bytes : ByteArray} {ret : Option FieldType} {r : Option Nat} {As rest st0 : List gV} {out : gOut} {u : Unit} (hT : GoodIn lw_all (wsV (gm_own M) idx C y (ws_ y bytes nL' ret))) (hdc : y.cls = C ∧ y.cls ≠ "java/lang/invoke/MethodHandle" ∧ y.cls ≠ "java/lang/invoke/VarHandle" ∧ (parseMethodDescriptor y.desc).map (fun d => d.parameters.length) = some As.length) (hcl : gCl[ci]? = some (C, T, N)) (hrv : gck σ r ci = some u) (hM : gCT E d' y (ws_ y bytes nL' ret) (vR r :: As) σ out σ1) (hdp : d' + 1 ≤ gm_d M) (hnL : nL' ≤ 81) (hst : st0 = As.reverse ++ vR r :: rest) (hrest : gSum rest ≤ 8) (hd : decode (gm_cc M) pc = .ok (.invokevirtual idx, 3)) (kk : gCont E M Q pc 3 L rest out σ1) : gW E M Q pc L st0 σ := by
  subst hst
  have hb := gCont_b kk
  refine ⟨Nat.le_trans hM.1 hb.1, Nat.le_trans hM.2.1 hb.2, fun hE p e s m args below meth c R hc H locs k9 n9 ls hr e1 e2 hf hl => ?_⟩
  obtain ⟨b, fs, rfl, hbq⟩ := gck_spec hrv
  have hMet := hM.2.2 hE
  have hz := gCtx_cells hc
  have hn := gCtx_slots hc
  have hfr := gCtx_frames hc
  have hlo := gCtx_locals hc
  have hts := hc.2.2.2.2.1
  have hK := gK_at hE hc
  have q1 := hM.1
  have q2 := hM.2.1
  have q3 := hb.1
  have q4 := hb.2
  have hRm : (gRm d' (σ1.2.1 - σ.2.1) (σ1.2.2 - σ.2.2)).frames + 1 ≤ R.frames ∧ 8 + (nL' + 11) + (gRm d' (σ1.2.1 - σ.2.1) (σ1.2.2 - σ.2.2)).locals ≤ R.locals := by
    constructor
    · show d' + 1 ≤ _
      omega
    · show 8 + (nL' + 11) + 100 * d' ≤ _
      omega
  have hfit : k9 + (σ1.2.1 - σ.2.1) ≤ R.cells ∧ n9 + (σ1.2.2 - σ.2.2) ≤ R.slots := by omega
  rw [g_stk]
  refine gw_run (mc := σ1.2.1 - σ.2.1) (ms := σ1.2.2 - σ.2.2) hE hc (by omega) (by omega) hf hl (vx_runV (C := C) (As := As.map gv) (rest := rest.map gv) ⟨hc.1, hc.2.1, hc.2.2.1, hc.2.2.2.1, hts⟩ hMet (cwV As.length hts hT rfl rfl rfl hdc hRm) ⟨gPc.blind, g_recv hK hr hcl hbq, g_pre (args := vR (some b) :: As) (gCtx_warm hc) hr⟩ rfl (by rw [List.length_map]) hl.1 rfl (g_room hrest) hd hfit) kk
theorem gw_callS {idx nL' d' : Nat} {y : MethodName} {bytes : ByteArray} {ret : Option FieldType} {As rest st0 : List gV} {out : gOut} (hT : GoodIn lw_all (va_wsS (gm_own M) idx y (ws_ y bytes nL' ret))) (hdc : y.cls ≠ "java/lang/invoke/MethodHandle" ∧ y.cls ≠ "java/lang/invoke/VarHandle" ∧ (parseMethodDescriptor y.desc).map (fun d => d.parameters.length) = some As.length) (hM : gCT E d' y (ws_ y bytes nL' ret) (As) σ out σ1) (hdp : d' + 1 ≤ gm_d M) (hnL : nL' ≤ 81) (hst : st0 = As.reverse ++ rest) (hrest : gSum rest ≤ 8) (hd : decode (gm_cc M) pc = .ok (.invokestatic idx, 3)) (kk : gCont E M Q pc 3 L rest out σ1) : gW E M Q pc L st0 σ := by
  subst hst
  have hb := gCont_b kk
  refine ⟨Nat.le_trans hM.1 hb.1, Nat.le_trans hM.2.1 hb.2, fun hE p e s m args below meth c R hc H locs k9 n9 ls hr e1 e2 hf hl => ?_⟩

  have hMet := hM.2.2 hE
  have hz := gCtx_cells hc
  have hn := gCtx_slots hc
  have hfr := gCtx_frames hc
  have hlo := gCtx_locals hc
  have hts := hc.2.2.2.2.1
  have hK := gK_at hE hc
  have q1 := hM.1
  have q2 := hM.2.1
  have q3 := hb.1
  have q4 := hb.2
  have hRm : (gRm d' (σ1.2.1 - σ.2.1) (σ1.2.2 - σ.2.2)).frames + 1 ≤ R.frames ∧ 8 + (nL' + 11) + (gRm d' (σ1.2.1 - σ.2.1) (σ1.2.2 - σ.2.2)).locals ≤ R.locals := by
    constructor
    · show d' + 1 ≤ _
      omega
    · show 8 + (nL' + 11) + 100 * d' ≤ _
      omega
  have hfit : k9 + (σ1.2.1 - σ.2.1) ≤ R.cells ∧ n9 + (σ1.2.2 - σ.2.2) ≤ R.slots := by omega
  rw [g_stk0]
  refine gw_run (mc := σ1.2.1 - σ.2.1) (ms := σ1.2.2 - σ.2.2) hE hc (by omega) (by omega) hf hl (vx_runS (As := As.map gv) (rest := rest.map gv) ⟨hc.1, hc.2.1, hc.2.2.1, hc.2.2.2.1, hts⟩ hMet (va_cwS As.length hts hT rfl rfl rfl hdc hRm) ⟨gPc.blind, g_pre (args := As) (gCtx_warm hc) hr⟩ rfl (by rw [List.length_map]) hl.1 rfl (g_room hrest) hd hfit) kk
theorem gw_callI {idx nL' d' : Nat} {y : MethodName} {bytes : ByteArray} {r : Option Nat} {As rest st0 : List gV} {out : gOut} (hT : GoodIn lw_all (ws_ y bytes nL' none)) (hq1 : Cond.initialized y.cls ∈ lw_all) (hq2 : Cond.methodLink (gm_own M) idx y ∈ lw_all) (hq3 : Cond.instanceMethod y ∈ lw_all) (hy1 : y.name = "<init>") (hdc : y.cls ≠ "java/lang/invoke/MethodHandle" ∧ y.cls ≠ "java/lang/invoke/VarHandle" ∧ (parseMethodDescriptor y.desc).map (fun d => d.parameters.length) = some As.length) (hrs : r.isSome = true) (hM : gCT E d' y (ws_ y bytes nL' none) (vR r :: As) σ out σ1) (hdp : d' + 1 ≤ gm_d M) (hnL : nL' ≤ 81) (hst : st0 = As.reverse ++ vR r :: rest) (hrest : gSum rest ≤ 8) (hd : decode (gm_cc M) pc = .ok (.invokespecial idx, 3)) (kk : gCont E M Q pc 3 L rest out σ1) : gW E M Q pc L st0 σ := by
  subst hst
  have hb := gCont_b kk
  refine ⟨Nat.le_trans hM.1 hb.1, Nat.le_trans hM.2.1 hb.2, fun hE p e s m args below meth c R hc H locs k9 n9 ls hr e1 e2 hf hl => ?_⟩
  obtain ⟨b, rfl⟩ : ∃ b, r = some b := by cases r with | none => cases hrs | some b => exact ⟨b, rfl⟩
  have hMet := hM.2.2 hE
  have hz := gCtx_cells hc
  have hn := gCtx_slots hc
  have hfr := gCtx_frames hc
  have hlo := gCtx_locals hc
  have hts := hc.2.2.2.2.1
  have hK := gK_at hE hc
  have q1 := hM.1
  have q2 := hM.2.1
  have q3 := hb.1
  have q4 := hb.2
  have hRm : (gRm d' (σ1.2.1 - σ.2.1) (σ1.2.2 - σ.2.2)).frames + 1 ≤ R.frames ∧ 8 + (nL' + 11) + (gRm d' (σ1.2.1 - σ.2.1) (σ1.2.2 - σ.2.2)).locals ≤ R.locals := by
    constructor
    · show d' + 1 ≤ _
      omega
    · show 8 + (nL' + 11) + 100 * d' ≤ _
      omega
  have hfit : k9 + (σ1.2.1 - σ.2.1) ≤ R.cells ∧ n9 + (σ1.2.2 - σ.2.2) ≤ R.slots := by omega
  rw [g_stk]
  refine gw_run (mc := σ1.2.1 - σ.2.1) (ms := σ1.2.2 - σ.2.2) hE hc (by omega) (by omega) hf hl (vx_runI (b := b) (As := As.map gv) (rest := rest.map gv) ⟨hc.1, hc.2.1, hc.2.2.1, hc.2.2.2.1, hts⟩ hMet (cwI As.length hts hT rfl rfl rfl (hts _ hq1) (hts _ hq2) (hts _ hq3) hy1 hdc hRm) ⟨gPc.blind, g_pre (args := vR (some b) :: As) (gCtx_warm hc) hr⟩ rfl (by rw [List.length_map]) hl.1 rfl (g_room hrest) hd hfit) kk
theorem gw_callVN {C host : String} {T : u_T} {N ci idx nL' d' : Nat} {y : MethodName} {bytes : ByteArray} {ret : Option FieldType} {r : Option Nat} {As rest st0 : List gV} {out : gOut} {u : Unit} (hT : GoodIn lw_all (ws_ y bytes nL' ret)) (hq1 : Cond.initialized y.cls ∈ lw_all) (hq2 : Cond.methodLinkNest (gm_own M) idx y host ∈ lw_tbl) (hq3 : Cond.instanceMethod y ∈ lw_all) (hq4 : Cond.selects C y y ∈ lw_all) (hdc : y.cls ≠ "java/lang/invoke/MethodHandle" ∧ y.cls ≠ "java/lang/invoke/VarHandle" ∧ (parseMethodDescriptor y.desc).map (fun d => d.parameters.length) = some As.length) (hcl : gCl[ci]? = some (C, T, N)) (hrv : gck σ r ci = some u) (hM : gCT E d' y (ws_ y bytes nL' ret) (vR r :: As) σ out σ1) (hdp : d' + 1 ≤ gm_d M) (hnL : nL' ≤ 81) (hst : st0 = As.reverse ++ vR r :: rest) (hrest : gSum rest ≤ 8) (hd : decode (gm_cc M) pc = .ok (.invokevirtual idx, 3)) (kk : gCont E M Q pc 3 L rest out σ1) : gW E M Q pc L st0 σ := by
  subst hst
  have hb := gCont_b kk
  refine ⟨Nat.le_trans hM.1 hb.1, Nat.le_trans hM.2.1 hb.2, fun hE p e s m args below meth c R hc H locs k9 n9 ls hr e1 e2 hf hl => ?_⟩
  obtain ⟨b, fs, rfl, hbq⟩ := gck_spec hrv
  have hMet := hM.2.2 hE
  have hz := gCtx_cells hc
  have hn := gCtx_slots hc
  have hfr := gCtx_frames hc
  have hlo := gCtx_locals hc
  have hts := hc.2.2.2.2.1
  have hK := gK_at hE hc
  have q1 := hM.1
  have q2 := hM.2.1
  have q3 := hb.1
  have q4 := hb.2
  have hRm : (gRm d' (σ1.2.1 - σ.2.1) (σ1.2.2 - σ.2.2)).frames + 1 ≤ R.frames ∧ 8 + (nL' + 11) + (gRm d' (σ1.2.1 - σ.2.1) (σ1.2.2 - σ.2.2)).locals ≤ R.locals := by
    constructor
    · show d' + 1 ≤ _
      omega
    · show 8 + (nL' + 11) + 100 * d' ≤ _
      omega
  have hfit : k9 + (σ1.2.1 - σ.2.1) ≤ R.cells ∧ n9 + (σ1.2.2 - σ.2.2) ≤ R.slots := by omega
  rw [g_stk]
  refine gw_run (mc := σ1.2.1 - σ.2.1) (ms := σ1.2.2 - σ.2.2) hE hc (by omega) (by omega) hf hl (vx_runVN (C := C) (As := As.map gv) (rest := rest.map gv) ⟨hc.1, hc.2.1, hc.2.2.1, hc.2.2.2.1, hts⟩ hMet ⟨va_cnB As.length hts hT rfl rfl rfl (va_Nw.warmM (gCtx_warm hc) (va_Nw.of rfl (hE.1 _ hq2))) (hts _ hq1) hdc hRm, hts _ hq3, hts _ hq4⟩ ⟨gPc.blind, g_recv hK hr hcl hbq, g_pre (args := vR (some b) :: As) (gCtx_warm hc) hr⟩ rfl (by rw [List.length_map]) hl.1 rfl (g_room hrest) hd hfit) kk
theorem gw_callSN {host : String} {idx nL' d' : Nat} {y : MethodName} {bytes : ByteArray} {ret : Option FieldType} {As rest st0 : List gV} {out : gOut} (hT : GoodIn lw_all (ws_ y bytes nL' ret)) (hq1 : Cond.initialized y.cls ∈ lw_all) (hq2 : Cond.methodLinkNest (gm_own M) idx y host ∈ lw_tbl) (hq3 : Cond.static y ∈ lw_all) (hdc : y.cls ≠ "java/lang/invoke/MethodHandle" ∧ y.cls ≠ "java/lang/invoke/VarHandle" ∧ (parseMethodDescriptor y.desc).map (fun d => d.parameters.length) = some As.length) (hM : gCT E d' y (ws_ y bytes nL' ret) (As) σ out σ1) (hdp : d' + 1 ≤ gm_d M) (hnL : nL' ≤ 81) (hst : st0 = As.reverse ++ rest) (hrest : gSum rest ≤ 8) (hd : decode (gm_cc M) pc = .ok (.invokestatic idx, 3)) (kk : gCont E M Q pc 3 L rest out σ1) : gW E M Q pc L st0 σ := by
  subst hst
  have hb := gCont_b kk
  refine ⟨Nat.le_trans hM.1 hb.1, Nat.le_trans hM.2.1 hb.2, fun hE p e s m args below meth c R hc H locs k9 n9 ls hr e1 e2 hf hl => ?_⟩

  have hMet := hM.2.2 hE
  have hz := gCtx_cells hc
  have hn := gCtx_slots hc
  have hfr := gCtx_frames hc
  have hlo := gCtx_locals hc
  have hts := hc.2.2.2.2.1
  have hK := gK_at hE hc
  have q1 := hM.1
  have q2 := hM.2.1
  have q3 := hb.1
  have q4 := hb.2
  have hRm : (gRm d' (σ1.2.1 - σ.2.1) (σ1.2.2 - σ.2.2)).frames + 1 ≤ R.frames ∧ 8 + (nL' + 11) + (gRm d' (σ1.2.1 - σ.2.1) (σ1.2.2 - σ.2.2)).locals ≤ R.locals := by
    constructor
    · show d' + 1 ≤ _
      omega
    · show 8 + (nL' + 11) + 100 * d' ≤ _
      omega
  have hfit : k9 + (σ1.2.1 - σ.2.1) ≤ R.cells ∧ n9 + (σ1.2.2 - σ.2.2) ≤ R.slots := by omega
  rw [g_stk0]
  refine gw_run (mc := σ1.2.1 - σ.2.1) (ms := σ1.2.2 - σ.2.2) hE hc (by omega) (by omega) hf hl (vx_runSN (As := As.map gv) (rest := rest.map gv) ⟨hc.1, hc.2.1, hc.2.2.1, hc.2.2.2.1, hts⟩ hMet ⟨va_cnB As.length hts hT rfl rfl rfl (va_Nw.warmM (gCtx_warm hc) (va_Nw.of rfl (hE.1 _ hq2))) (hts _ hq1) hdc hRm, hts _ hq3, trivial⟩ ⟨gPc.blind, g_pre (args := As) (gCtx_warm hc) hr⟩ rfl (by rw [List.length_map]) hl.1 rfl (g_room hrest) hd hfit) kk
theorem gw_callIN {host : String} {idx nL' d' : Nat} {y : MethodName} {bytes : ByteArray} {r : Option Nat} {As rest st0 : List gV} {out : gOut} (hT : GoodIn lw_all (ws_ y bytes nL' none)) (hq1 : Cond.initialized y.cls ∈ lw_all) (hq2 : Cond.methodLinkNest (gm_own M) idx y host ∈ lw_tbl) (hq3 : Cond.instanceMethod y ∈ lw_all) (hy1 : y.name = "<init>") (hdc : y.cls ≠ "java/lang/invoke/MethodHandle" ∧ y.cls ≠ "java/lang/invoke/VarHandle" ∧ (parseMethodDescriptor y.desc).map (fun d => d.parameters.length) = some As.length) (hrs : r.isSome = true) (hM : gCT E d' y (ws_ y bytes nL' none) (vR r :: As) σ out σ1) (hdp : d' + 1 ≤ gm_d M) (hnL : nL' ≤ 81) (hst : st0 = As.reverse ++ vR r :: rest) (hrest : gSum rest ≤ 8) (hd : decode (gm_cc M) pc = .ok (.invokespecial idx, 3)) (kk : gCont E M Q pc 3 L rest out σ1) : gW E M Q pc L st0 σ := by
  subst hst
  have hb := gCont_b kk
  refine ⟨Nat.le_trans hM.1 hb.1, Nat.le_trans hM.2.1 hb.2, fun hE p e s m args below meth c R hc H locs k9 n9 ls hr e1 e2 hf hl => ?_⟩
  obtain ⟨b, rfl⟩ : ∃ b, r = some b := by cases r with | none => cases hrs | some b => exact ⟨b, rfl⟩
  have hMet := hM.2.2 hE
  have hz := gCtx_cells hc
  have hn := gCtx_slots hc
  have hfr := gCtx_frames hc
  have hlo := gCtx_locals hc
  have hts := hc.2.2.2.2.1
  have hK := gK_at hE hc
  have q1 := hM.1
  have q2 := hM.2.1
  have q3 := hb.1
  have q4 := hb.2
  have hRm : (gRm d' (σ1.2.1 - σ.2.1) (σ1.2.2 - σ.2.2)).frames + 1 ≤ R.frames ∧ 8 + (nL' + 11) + (gRm d' (σ1.2.1 - σ.2.1) (σ1.2.2 - σ.2.2)).locals ≤ R.locals := by
    constructor
    · show d' + 1 ≤ _
      omega
    · show 8 + (nL' + 11) + 100 * d' ≤ _
      omega
  have hfit : k9 + (σ1.2.1 - σ.2.1) ≤ R.cells ∧ n9 + (σ1.2.2 - σ.2.2) ≤ R.slots := by omega
  rw [g_stk]
  refine gw_run (mc := σ1.2.1 - σ.2.1) (ms := σ1.2.2 - σ.2.2) hE hc (by omega) (by omega) hf hl (vx_runIN (b := b) (As := As.map gv) (rest := rest.map gv) ⟨hc.1, hc.2.1, hc.2.2.1, hc.2.2.2.1, hts⟩ hMet ⟨va_cnB As.length hts hT rfl rfl rfl (va_Nw.warmM (gCtx_warm hc) (va_Nw.of rfl (hE.1 _ hq2))) (hts _ hq1) hdc hRm, hy1, hts _ hq3⟩ ⟨gPc.blind, g_pre (args := vR (some b) :: As) (gCtx_warm hc) hr⟩ rfl (by rw [List.length_map]) hl.1 rfl (g_room hrest) hd hfit) kk
theorem gw_callU {C owner : String} {T : u_T} {N ci idx nL' d' : Nat} {x y : MethodName} {bytes : ByteArray} {ret : Option FieldType} {r : Option Nat} {As rest st0 : List gV} {out : gOut} {u : Unit} (hT : GoodIn lw_all (va_wsU (gm_own M) idx C owner x y (ws_ y bytes nL' ret))) (hyx : y = ⟨owner, x.name, x.desc⟩) (hdc : owner ≠ "java/lang/invoke/MethodHandle" ∧ owner ≠ "java/lang/invoke/VarHandle" ∧ (parseMethodDescriptor x.desc).map (fun d => d.parameters.length) = some As.length) (hcl : gCl[ci]? = some (C, T, N)) (hrv : gck σ r ci = some u) (hM : gCT E d' y (ws_ y bytes nL' ret) (vR r :: As) σ out σ1) (hdp : d' + 1 ≤ gm_d M) (hnL : nL' ≤ 81) (hst : st0 = As.reverse ++ vR r :: rest) (hrest : gSum rest ≤ 8) (hd : decode (gm_cc M) pc = .ok (.invokevirtual idx, 3)) (kk : gCont E M Q pc 3 L rest out σ1) : gW E M Q pc L st0 σ := by
  subst hst
  have hb := gCont_b kk
  refine ⟨Nat.le_trans hM.1 hb.1, Nat.le_trans hM.2.1 hb.2, fun hE p e s m args below meth c R hc H locs k9 n9 ls hr e1 e2 hf hl => ?_⟩
  obtain ⟨b, fs, rfl, hbq⟩ := gck_spec hrv
  have hMet := hM.2.2 hE
  have hz := gCtx_cells hc
  have hn := gCtx_slots hc
  have hfr := gCtx_frames hc
  have hlo := gCtx_locals hc
  have hts := hc.2.2.2.2.1
  have hK := gK_at hE hc
  have q1 := hM.1
  have q2 := hM.2.1
  have q3 := hb.1
  have q4 := hb.2
  have hRm : (gRm d' (σ1.2.1 - σ.2.1) (σ1.2.2 - σ.2.2)).frames + 1 ≤ R.frames ∧ 8 + (nL' + 11) + (gRm d' (σ1.2.1 - σ.2.1) (σ1.2.2 - σ.2.2)).locals ≤ R.locals := by
    constructor
    · show d' + 1 ≤ _
      omega
    · show 8 + (nL' + 11) + 100 * d' ≤ _
      omega
  have hfit : k9 + (σ1.2.1 - σ.2.1) ≤ R.cells ∧ n9 + (σ1.2.2 - σ.2.2) ≤ R.slots := by omega
  rw [g_stk]
  refine gw_run (mc := σ1.2.1 - σ.2.1) (ms := σ1.2.2 - σ.2.2) hE hc (by omega) (by omega) hf hl (vx_runU (C := C) (owner := owner) (x := x) (As := As.map gv) (rest := rest.map gv) ⟨hc.1, hc.2.1, hc.2.2.1, hc.2.2.2.1, hts⟩ hMet (va_cwU As.length hts hT rfl rfl rfl hyx hdc hRm) ⟨gPc.blind, g_recv hK hr hcl hbq, g_pre (args := vR (some b) :: As) (gCtx_warm hc) hr⟩ rfl (by rw [List.length_map]) hl.1 rfl (g_room hrest) hd hfit) kk
theorem gw_callO {C owner : String} {T : u_T} {N ci idx nL' d' : Nat} {x y : MethodName} {bytes : ByteArray} {ret : Option FieldType} {r : Option Nat} {As rest st0 : List gV} {out : gOut} {u : Unit} (hT : GoodIn lw_all (va_wsO (gm_own M) idx C owner x y (ws_ y bytes nL' ret))) {b0 : ByteArray} {m0 : Nat} {r0 : Option FieldType} (h0 : Cond.code ⟨owner, x.name, x.desc⟩ b0 m0 r0 ∈ lw_all) (hdc : owner ≠ "java/lang/invoke/MethodHandle" ∧ owner ≠ "java/lang/invoke/VarHandle" ∧ (parseMethodDescriptor x.desc).map (fun d => d.parameters.length) = some As.length) (hcl : gCl[ci]? = some (C, T, N)) (hrv : gck σ r ci = some u) (hM : gCT E d' y (ws_ y bytes nL' ret) (vR r :: As) σ out σ1) (hdp : d' + 1 ≤ gm_d M) (hnL : nL' ≤ 81) (hst : st0 = As.reverse ++ vR r :: rest) (hrest : gSum rest ≤ 8) (hd : decode (gm_cc M) pc = .ok (.invokevirtual idx, 3)) (kk : gCont E M Q pc 3 L rest out σ1) : gW E M Q pc L st0 σ := by
  subst hst
  have hb := gCont_b kk
  refine ⟨Nat.le_trans hM.1 hb.1, Nat.le_trans hM.2.1 hb.2, fun hE p e s m args below meth c R hc H locs k9 n9 ls hr e1 e2 hf hl => ?_⟩
  obtain ⟨b, fs, rfl, hbq⟩ := gck_spec hrv
  have hMet := hM.2.2 hE
  have hz := gCtx_cells hc
  have hn := gCtx_slots hc
  have hfr := gCtx_frames hc
  have hlo := gCtx_locals hc
  have hts := hc.2.2.2.2.1
  have hK := gK_at hE hc
  have q1 := hM.1
  have q2 := hM.2.1
  have q3 := hb.1
  have q4 := hb.2
  have hRm : (gRm d' (σ1.2.1 - σ.2.1) (σ1.2.2 - σ.2.2)).frames + 1 ≤ R.frames ∧ 8 + (nL' + 11) + (gRm d' (σ1.2.1 - σ.2.1) (σ1.2.2 - σ.2.2)).locals ≤ R.locals := by
    constructor
    · show d' + 1 ≤ _
      omega
    · show 8 + (nL' + 11) + 100 * d' ≤ _
      omega
  have hfit : k9 + (σ1.2.1 - σ.2.1) ≤ R.cells ∧ n9 + (σ1.2.2 - σ.2.2) ≤ R.slots := by omega
  rw [g_stk]
  refine gw_run (mc := σ1.2.1 - σ.2.1) (ms := σ1.2.2 - σ.2.2) hE hc (by omega) (by omega) hf hl (vx_runU (C := C) (owner := owner) (x := x) (As := As.map gv) (rest := rest.map gv) ⟨hc.1, hc.2.1, hc.2.2.1, hc.2.2.2.1, hts⟩ hMet (va_cwO As.length hts hT rfl rfl rfl h0 hdc hRm) ⟨gPc.blind, g_recv hK hr hcl hbq, g_pre (args := vR (some b) :: As) (gCtx_warm hc) hr⟩ rfl (by rw [List.length_map]) hl.1 rfl (g_room hrest) hd hfit) kk
theorem gw_callF {C : String} {T : u_T} {N ci idx nL' d' cnt : Nat} {x y : MethodName} {bytes : ByteArray} {ret : Option FieldType} {r : Option Nat} {As rest st0 : List gV} {out : gOut} {u : Unit} (hT : GoodIn lw_all (va_wsF (gm_own M) idx C x y (ws_ y bytes nL' ret))) (hf1 : Cond.declares x ∈ lw_tbl) (hf2 : Cond.interfaceMethod x.cls x.cls x.name x.desc ∈ lw_tbl) (hf3 : Cond.publicMethod y ∈ lw_tbl) (hf4 : Cond.unhidden C x.name x.desc ∈ lw_tbl) (hf5 : Cond.castable C x.cls ∈ lw_tbl) (hdc : x.cls ≠ "java/lang/invoke/MethodHandle" ∧ x.cls ≠ "java/lang/invoke/VarHandle" ∧ (parseMethodDescriptor x.desc).map (fun d => d.parameters.length) = some As.length) (hcl : gCl[ci]? = some (C, T, N)) (hrv : gck σ r ci = some u) (hM : gCT E d' y (ws_ y bytes nL' ret) (vR r :: As) σ out σ1) (hdp : d' + 1 ≤ gm_d M) (hnL : nL' ≤ 81) (hst : st0 = As.reverse ++ vR r :: rest) (hrest : gSum rest ≤ 8) (hd : decode (gm_cc M) pc = .ok (.invokeinterface idx cnt, 5)) (kk : gCont E M Q pc 5 L rest out σ1) : gW E M Q pc L st0 σ := by
  subst hst
  have hb := gCont_b kk
  refine ⟨Nat.le_trans hM.1 hb.1, Nat.le_trans hM.2.1 hb.2, fun hE p e s m args below meth c R hc H locs k9 n9 ls hr e1 e2 hf hl => ?_⟩
  obtain ⟨b, fs, rfl, hbq⟩ := gck_spec hrv
  have hMet := hM.2.2 hE
  have hz := gCtx_cells hc
  have hn := gCtx_slots hc
  have hfr := gCtx_frames hc
  have hlo := gCtx_locals hc
  have hts := hc.2.2.2.2.1
  have hK := gK_at hE hc
  have q1 := hM.1
  have q2 := hM.2.1
  have q3 := hb.1
  have q4 := hb.2
  have hRm : (gRm d' (σ1.2.1 - σ.2.1) (σ1.2.2 - σ.2.2)).frames + 1 ≤ R.frames ∧ 8 + (nL' + 11) + (gRm d' (σ1.2.1 - σ.2.1) (σ1.2.2 - σ.2.2)).locals ≤ R.locals := by
    constructor
    · show d' + 1 ≤ _
      omega
    · show 8 + (nL' + 11) + 100 * d' ≤ _
      omega
  have hfit : k9 + (σ1.2.1 - σ.2.1) ≤ R.cells ∧ n9 + (σ1.2.2 - σ.2.2) ≤ R.slots := by omega
  have hFw : va_Fw C x y s := va_Fw.moved ⟨hdc.1, hdc.2.1⟩ (State.WarmedH.alike (gCtx_warm hc)) (va_Fw.of (hE.1 _ hf1) (hE.1 _ hf2) (hE.1 _ hf3) (hE.1 _ hf4) (hE.1 _ hf5))
  rw [g_stk]
  refine gw_run5 (mc := σ1.2.1 - σ.2.1) (ms := σ1.2.2 - σ.2.2) hE hc (by omega) (by omega) hf hl (vx_runF (hK.1 ci _ hcl).2 (C := C) (x := x) (As := As.map gv) (rest := rest.map gv) ⟨hc.1, hc.2.1, hc.2.2.1, hc.2.2.2.1, hts⟩ hMet (va_cwF As.length hts hT rfl rfl rfl hFw hdc hRm) ⟨gPc.blind, g_recv hK hr hcl hbq, g_pre (args := vR (some b) :: As) (gCtx_warm hc) hr⟩ rfl (by rw [List.length_map]) hl.1 rfl (g_room hrest) hd hfit) kk
theorem gw_callSU {C : String} {T : u_T} {N ci idx nL' d' : Nat} {y : MethodName} {bytes : ByteArray} {ret : Option FieldType} {r : Option Nat} {As rest st0 : List gV} {out : gOut} {u : Unit} (hT : GoodIn lw_all (va_wsSU (gm_own M) idx y (ws_ y bytes nL' ret))) (hdc : y.name ≠ "<init>" ∧ (parseMethodDescriptor y.desc).map (fun d => d.parameters.length) = some As.length) (hcl : gCl[ci]? = some (C, T, N)) (hrv : gck σ r ci = some u) (hM : gCT E d' y (ws_ y bytes nL' ret) (vR r :: As) σ out σ1) (hdp : d' + 1 ≤ gm_d M) (hnL : nL' ≤ 81) (hst : st0 = As.reverse ++ vR r :: rest) (hrest : gSum rest ≤ 8) (hd : decode (gm_cc M) pc = .ok (.invokespecial idx, 3)) (kk : gCont E M Q pc 3 L rest out σ1) : gW E M Q pc L st0 σ := by
  subst hst
  have hb := gCont_b kk
  refine ⟨Nat.le_trans hM.1 hb.1, Nat.le_trans hM.2.1 hb.2, fun hE p e s m args below meth c R hc H locs k9 n9 ls hr e1 e2 hf hl => ?_⟩
  obtain ⟨b, fs, rfl, hbq⟩ := gck_spec hrv
  have hMet := hM.2.2 hE
  have hz := gCtx_cells hc
  have hn := gCtx_slots hc
  have hfr := gCtx_frames hc
  have hlo := gCtx_locals hc
  have hts := hc.2.2.2.2.1
  have hK := gK_at hE hc
  have q1 := hM.1
  have q2 := hM.2.1
  have q3 := hb.1
  have q4 := hb.2
  have hRm : (gRm d' (σ1.2.1 - σ.2.1) (σ1.2.2 - σ.2.2)).frames + 1 ≤ R.frames ∧ 8 + (nL' + 11) + (gRm d' (σ1.2.1 - σ.2.1) (σ1.2.2 - σ.2.2)).locals ≤ R.locals := by
    constructor
    · show d' + 1 ≤ _
      omega
    · show 8 + (nL' + 11) + 100 * d' ≤ _
      omega
  have hfit : k9 + (σ1.2.1 - σ.2.1) ≤ R.cells ∧ n9 + (σ1.2.2 - σ.2.2) ≤ R.slots := by omega
  rw [g_stk]
  refine gw_run (mc := σ1.2.1 - σ.2.1) (ms := σ1.2.2 - σ.2.2) hE hc (by omega) (by omega) hf hl (vx_runSU (C := C) (hK.1 ci _ hcl).2 (As := As.map gv) (rest := rest.map gv) ⟨hc.1, hc.2.1, hc.2.2.1, hc.2.2.2.1, hts⟩ hMet (va_cwSU As.length hts hT rfl rfl rfl hdc hRm) ⟨gPc.blind, g_recv hK hr hcl hbq, g_pre (args := vR (some b) :: As) (gCtx_warm hc) hr⟩ rfl (by rw [List.length_map]) hl.1 rfl (g_room hrest) hd hfit) kk
theorem g_met {l : Launch} {y : MethodName} {ws : List Cond} {rm : Room} {Pc : Array Value → State → Prop} {mc ms : Nat} {free : Addr → Prop} {v : Option gV} (h : vx_Met l y ws rm Pc (gQc E (.inl v) σ1) (gXC E (.inl v) σ1) mc ms free) : Met l y ws rm Pc (gQc E (.inl v) σ1) mc ms free := by
  intro p e ha hc hk s m args below hf happ hP hK
  obtain ⟨t, o, h1, h2, h3, h4⟩ := h p e ha hc hk s m args below hf happ hP hK
  refine ⟨t, o, h1, h2, h3, ?_⟩
  rcases h4 with h4 | ⟨q, rfl, E9, ce, L9, hx, -⟩
  · exact h4
  · cases hx.1
theorem g_run {p : Program} {l : Launch} {e : Env} {R : Room} {s : State} {m : MethodId} {args : Array Value} {below : List Frame} {meth : Method} {c : Code} {H : Heap} {locs : List Loc} {k n mc ms : Nat} {g : JFrame} {rest : List Value} {Qa : State → Outcome → State → Prop} {XC : String → State → State → Prop} {free : Addr → Prop} (h : va_Run p l e R s m args below meth c H locs k n mc ms g rest Qa free) : vx_Run p l e R s m args below meth c H locs k n mc ms g rest Qa XC free := fun T hT X => Or.inl (h T hT X)
theorem gw_callKA {C owner : String} {idx nL' d' : Nat} {x y : MethodName} {bytes : ByteArray} {ret : Option FieldType} {r : Option Nat} {i : Nat} {As rest st0 : List gV} {out : gOut} (hT : GoodIn lw_all (va_wsU (gm_own M) idx C owner x y (ws_ y bytes nL' ret))) (hz9 : Cond.declares ⟨owner, x.name, x.desc⟩ ∈ lw_tbl) (hdc : owner ≠ "java/lang/invoke/MethodHandle" ∧ owner ≠ "java/lang/invoke/VarHandle" ∧ (parseMethodDescriptor x.desc).map (fun d => d.parameters.length) = some As.length) (hob : (C, i) ∈ gObjL) (hrk : r = (gk E).2 i) (hM : gCT E d' y (ws_ y bytes nL' ret) (vR r :: As) σ out σ1) (hdp : d' + 1 ≤ gm_d M) (hnL : nL' ≤ 81) (hst : st0 = As.reverse ++ vR r :: rest) (hrest : gSum rest ≤ 8) (hd : decode (gm_cc M) pc = .ok (.invokevirtual idx, 3)) (kk : gCont E M Q pc 3 L rest out σ1) : gW E M Q pc L st0 σ := by
  subst hst
  have hb := gCont_b kk
  refine ⟨Nat.le_trans hM.1 hb.1, Nat.le_trans hM.2.1 hb.2, fun hE p e s m args below meth c R hc H locs k9 n9 ls hr e1 e2 hf hl => ?_⟩
  obtain ⟨b, hb9, -⟩ := hE.2.2.2.2.2.2.2.1 _ hob
  cases hrk.trans hb9
  have hMet := hM.2.2 hE
  have hz := gCtx_cells hc
  have hn := gCtx_slots hc
  have hfr := gCtx_frames hc
  have hlo := gCtx_locals hc
  have hts := hc.2.2.2.2.1
  have hK := gK_at hE hc
  have q1 := hM.1
  have q2 := hM.2.1
  have q3 := hb.1
  have q4 := hb.2
  have hRm : (gRm d' (σ1.2.1 - σ.2.1) (σ1.2.2 - σ.2.2)).frames + 1 ≤ R.frames ∧ 8 + (nL' + 11) + (gRm d' (σ1.2.1 - σ.2.1) (σ1.2.2 - σ.2.2)).locals ≤ R.locals := by
    constructor
    · show d' + 1 ≤ _
      omega
    · show 8 + (nL' + 11) + 100 * d' ≤ _
      omega
  have hfit : k9 + (σ1.2.1 - σ.2.1) ≤ R.cells ∧ n9 + (σ1.2.2 - σ.2.2) ≤ R.slots := by omega
  rw [g_stk]
  refine gw_run (mc := σ1.2.1 - σ.2.1) (ms := σ1.2.2 - σ.2.2) hE hc (by omega) (by omega) hf hl (vx_runU (C := C) (owner := owner) (x := x) (As := As.map gv) (rest := rest.map gv) ⟨hc.1, hc.2.1, hc.2.2.1, hc.2.2.2.1, hts⟩ hMet (va_cwA As.length hts hT rfl rfl rfl (va_Nw.warmD (gCtx_warm hc) (va_Nw.of rfl (hE.1 _ hz9))) hdc hRm) ⟨gPc.blind, g_objAt hE (gCtx_warm hc) hob hb9 hr, g_pre (args := vR (some b) :: As) (gCtx_warm hc) hr⟩ rfl (by rw [List.length_map]) hl.1 rfl (g_room hrest) hd hfit) kk
theorem gw_callKU {C owner : String} {idx nL' d' : Nat} {x y : MethodName} {bytes : ByteArray} {ret : Option FieldType} {r : Option Nat} {i : Nat} {As rest st0 : List gV} {out : gOut} (hT : GoodIn lw_all (va_wsU (gm_own M) idx C owner x y (ws_ y bytes nL' ret))) (hyx : y = ⟨owner, x.name, x.desc⟩) (hdc : owner ≠ "java/lang/invoke/MethodHandle" ∧ owner ≠ "java/lang/invoke/VarHandle" ∧ (parseMethodDescriptor x.desc).map (fun d => d.parameters.length) = some As.length) (hob : (C, i) ∈ gObjL) (hrk : r = (gk E).2 i) (hM : gCT E d' y (ws_ y bytes nL' ret) (vR r :: As) σ out σ1) (hdp : d' + 1 ≤ gm_d M) (hnL : nL' ≤ 81) (hst : st0 = As.reverse ++ vR r :: rest) (hrest : gSum rest ≤ 8) (hd : decode (gm_cc M) pc = .ok (.invokevirtual idx, 3)) (kk : gCont E M Q pc 3 L rest out σ1) : gW E M Q pc L st0 σ := by
  subst hst
  have hb := gCont_b kk
  refine ⟨Nat.le_trans hM.1 hb.1, Nat.le_trans hM.2.1 hb.2, fun hE p e s m args below meth c R hc H locs k9 n9 ls hr e1 e2 hf hl => ?_⟩
  obtain ⟨b, hb9, -⟩ := hE.2.2.2.2.2.2.2.1 _ hob
  cases hrk.trans hb9
  have hMet := hM.2.2 hE
  have hz := gCtx_cells hc
  have hn := gCtx_slots hc
  have hfr := gCtx_frames hc
  have hlo := gCtx_locals hc
  have hts := hc.2.2.2.2.1
  have hK := gK_at hE hc
  have q1 := hM.1
  have q2 := hM.2.1
  have q3 := hb.1
  have q4 := hb.2
  have hRm : (gRm d' (σ1.2.1 - σ.2.1) (σ1.2.2 - σ.2.2)).frames + 1 ≤ R.frames ∧ 8 + (nL' + 11) + (gRm d' (σ1.2.1 - σ.2.1) (σ1.2.2 - σ.2.2)).locals ≤ R.locals := by
    constructor
    · show d' + 1 ≤ _
      omega
    · show 8 + (nL' + 11) + 100 * d' ≤ _
      omega
  have hfit : k9 + (σ1.2.1 - σ.2.1) ≤ R.cells ∧ n9 + (σ1.2.2 - σ.2.2) ≤ R.slots := by omega
  rw [g_stk]
  refine gw_run (mc := σ1.2.1 - σ.2.1) (ms := σ1.2.2 - σ.2.2) hE hc (by omega) (by omega) hf hl (vx_runU (C := C) (owner := owner) (x := x) (As := As.map gv) (rest := rest.map gv) ⟨hc.1, hc.2.1, hc.2.2.1, hc.2.2.2.1, hts⟩ hMet (va_cwU As.length hts hT rfl rfl rfl hyx hdc hRm) ⟨gPc.blind, g_objAt hE (gCtx_warm hc) hob hb9 hr, g_pre (args := vR (some b) :: As) (gCtx_warm hc) hr⟩ rfl (by rw [List.length_map]) hl.1 rfl (g_room hrest) hd hfit) kk
theorem gw_callA {C owner : String} {T : u_T} {N ci idx nL' d' : Nat} {x y : MethodName} {bytes : ByteArray} {ret : Option FieldType} {r : Option Nat} {As rest st0 : List gV} {out : gOut} {u : Unit} (hT : GoodIn lw_all (va_wsU (gm_own M) idx C owner x y (ws_ y bytes nL' ret))) (hz9 : Cond.declares ⟨owner, x.name, x.desc⟩ ∈ lw_tbl) (hdc : owner ≠ "java/lang/invoke/MethodHandle" ∧ owner ≠ "java/lang/invoke/VarHandle" ∧ (parseMethodDescriptor x.desc).map (fun d => d.parameters.length) = some As.length) (hcl : gCl[ci]? = some (C, T, N)) (hrv : gck σ r ci = some u) (hM : gCT E d' y (ws_ y bytes nL' ret) (vR r :: As) σ out σ1) (hdp : d' + 1 ≤ gm_d M) (hnL : nL' ≤ 81) (hst : st0 = As.reverse ++ vR r :: rest) (hrest : gSum rest ≤ 8) (hd : decode (gm_cc M) pc = .ok (.invokevirtual idx, 3)) (kk : gCont E M Q pc 3 L rest out σ1) : gW E M Q pc L st0 σ := by
  subst hst
  have hb := gCont_b kk
  refine ⟨Nat.le_trans hM.1 hb.1, Nat.le_trans hM.2.1 hb.2, fun hE p e s m args below meth c R hc H locs k9 n9 ls hr e1 e2 hf hl => ?_⟩
  obtain ⟨b, fs, rfl, hbq⟩ := gck_spec hrv
  have hMet := hM.2.2 hE
  have hz := gCtx_cells hc
  have hn := gCtx_slots hc
  have hfr := gCtx_frames hc
  have hlo := gCtx_locals hc
  have hts := hc.2.2.2.2.1
  have hK := gK_at hE hc
  have q1 := hM.1
  have q2 := hM.2.1
  have q3 := hb.1
  have q4 := hb.2
  have hRm : (gRm d' (σ1.2.1 - σ.2.1) (σ1.2.2 - σ.2.2)).frames + 1 ≤ R.frames ∧ 8 + (nL' + 11) + (gRm d' (σ1.2.1 - σ.2.1) (σ1.2.2 - σ.2.2)).locals ≤ R.locals := by
    constructor
    · show d' + 1 ≤ _
      omega
    · show 8 + (nL' + 11) + 100 * d' ≤ _
      omega
  have hfit : k9 + (σ1.2.1 - σ.2.1) ≤ R.cells ∧ n9 + (σ1.2.2 - σ.2.2) ≤ R.slots := by omega
  rw [g_stk]
  refine gw_run (mc := σ1.2.1 - σ.2.1) (ms := σ1.2.2 - σ.2.2) hE hc (by omega) (by omega) hf hl (vx_runU (C := C) (owner := owner) (x := x) (As := As.map gv) (rest := rest.map gv) ⟨hc.1, hc.2.1, hc.2.2.1, hc.2.2.2.1, hts⟩ hMet (va_cwA As.length hts hT rfl rfl rfl (va_Nw.warmD (gCtx_warm hc) (va_Nw.of rfl (hE.1 _ hz9))) hdc hRm) ⟨gPc.blind, g_recv hK hr hcl hbq, g_pre (args := vR (some b) :: As) (gCtx_warm hc) hr⟩ rfl (by rw [List.length_map]) hl.1 rfl (g_room hrest) hd hfit) kk
theorem gw_callP {C : String} {T : u_T} {N ci idx nL' d' : Nat} {y : MethodName} {bytes : ByteArray} {ret : Option FieldType} {r : Option Nat} {As rest st0 : List gV} {out : gOut} {u : Unit} {nI : Nat} (hT : GoodIn lw_all (ws_ y bytes nL' ret)) (hq1 : Cond.initialized y.cls ∈ lw_all) (hq2 : Cond.methodLink (gm_own M) idx y ∈ lw_all) (hq3 : Cond.instanceMethod y ∈ lw_all) (hq4 : Cond.instantiable C nI ∈ lw_tbl) (hq5 : Cond.privateMethod y ∈ lw_tbl) (hq6 : Cond.sameMethod y.cls y.cls y.name y.desc ∈ lw_tbl) (hdc : y.cls ≠ "java/lang/invoke/MethodHandle" ∧ y.cls ≠ "java/lang/invoke/VarHandle" ∧ (parseMethodDescriptor y.desc).map (fun d => d.parameters.length) = some As.length) (hcl : gCl[ci]? = some (C, T, N)) (hrv : gck σ r ci = some u) (hM : gCT E d' y (ws_ y bytes nL' ret) (vR r :: As) σ out σ1) (hdp : d' + 1 ≤ gm_d M) (hnL : nL' ≤ 81) (hst : st0 = As.reverse ++ vR r :: rest) (hrest : gSum rest ≤ 8) (hd : decode (gm_cc M) pc = .ok (.invokevirtual idx, 3)) (kk : gCont E M Q pc 3 L rest out σ1) : gW E M Q pc L st0 σ := by
  subst hst
  have hb := gCont_b kk
  refine ⟨Nat.le_trans hM.1 hb.1, Nat.le_trans hM.2.1 hb.2, fun hE p e s m args below meth c R hc H locs k9 n9 ls hr e1 e2 hf hl => ?_⟩
  obtain ⟨b, fs, rfl, hbq⟩ := gck_spec hrv
  have hMet := hM.2.2 hE
  have hz := gCtx_cells hc
  have hn := gCtx_slots hc
  have hfr := gCtx_frames hc
  have hlo := gCtx_locals hc
  have hts := hc.2.2.2.2.1
  have hK := gK_at hE hc
  have q1 := hM.1
  have q2 := hM.2.1
  have q3 := hb.1
  have q4 := hb.2
  have hRm : (gRm d' (σ1.2.1 - σ.2.1) (σ1.2.2 - σ.2.2)).frames + 1 ≤ R.frames ∧ 8 + (nL' + 11) + (gRm d' (σ1.2.1 - σ.2.1) (σ1.2.2 - σ.2.2)).locals ≤ R.locals := by
    constructor
    · show d' + 1 ≤ _
      omega
    · show 8 + (nL' + 11) + 100 * d' ≤ _
      omega
  have hfit : k9 + (σ1.2.1 - σ.2.1) ≤ R.cells ∧ n9 + (σ1.2.2 - σ.2.2) ≤ R.slots := by omega
  rw [g_stk]
  refine gw_run (mc := σ1.2.1 - σ.2.1) (ms := σ1.2.2 - σ.2.2) hE hc (by omega) (by omega) hf hl (vx_runV (C := C) (As := As.map gv) (rest := rest.map gv) ⟨hc.1, hc.2.1, hc.2.2.1, hc.2.2.2.1, hts⟩ hMet ⟨callB_of As.length hts hT rfl rfl rfl (hts _ hq1) (hts _ hq2) hdc hRm, hts _ hq3, word_at (gCtx_warm hc) (Or.inl rfl) (g_selP ⟨hdc.1, hdc.2.1⟩ (hE.1 _ hq4) (hE.1 _ hq5) (hE.1 _ (lw_t hq3)) (hE.1 _ hq6))⟩ ⟨gPc.blind, g_recv hK hr hcl hbq, g_pre (args := vR (some b) :: As) (gCtx_warm hc) hr⟩ rfl (by rw [List.length_map]) hl.1 rfl (g_room hrest) hd hfit) kk
theorem gw_callVW {C : String} {T : u_T} {N ci idx nL' d' : Nat} {y : MethodName} {bytes : ByteArray} {ret : Option FieldType} {hh : List (Nat × Nat × Nat × Nat)} {r : Option Nat} {As rest st0 : List gV} {v : Option gV} {u : Unit} (hT : GoodIn lw_all (wsV (gm_own M) idx C y (wsW_ y bytes nL' ret hh))) (hdc : y.cls = C ∧ y.cls ≠ "java/lang/invoke/MethodHandle" ∧ y.cls ≠ "java/lang/invoke/VarHandle" ∧ (parseMethodDescriptor y.desc).map (fun d => d.parameters.length) = some As.length) (hcl : gCl[ci]? = some (C, T, N)) (hrv : gck σ r ci = some u) (hM : gCT E d' y (wsW_ y bytes nL' ret hh) (vR r :: As) σ (.inl v) σ1) (hdp : d' + 1 ≤ gm_d M) (hnL : nL' ≤ 81) (hst : st0 = As.reverse ++ vR r :: rest) (hrest : gSum rest ≤ 8) (hd : decode (gm_cc M) pc = .ok (.invokevirtual idx, 3)) (kk : gCont E M Q pc 3 L rest (.inl v) σ1) : gW E M Q pc L st0 σ := by
  subst hst
  have hb := gCont_b kk
  refine ⟨Nat.le_trans hM.1 hb.1, Nat.le_trans hM.2.1 hb.2, fun hE p e s m args below meth c R hc H locs k9 n9 ls hr e1 e2 hf hl => ?_⟩
  obtain ⟨b, fs, rfl, hbq⟩ := gck_spec hrv
  have hMet := g_met (hM.2.2 hE)
  have hz := gCtx_cells hc
  have hn := gCtx_slots hc
  have hfr := gCtx_frames hc
  have hlo := gCtx_locals hc
  have hts := hc.2.2.2.2.1
  have hK := gK_at hE hc
  have q1 := hM.1
  have q2 := hM.2.1
  have q3 := hb.1
  have q4 := hb.2
  have hRm : (gRm d' (σ1.2.1 - σ.2.1) (σ1.2.2 - σ.2.2)).frames + 1 ≤ R.frames ∧ 8 + (nL' + 11) + (gRm d' (σ1.2.1 - σ.2.1) (σ1.2.2 - σ.2.2)).locals ≤ R.locals := by
    constructor
    · show d' + 1 ≤ _
      omega
    · show 8 + (nL' + 11) + 100 * d' ≤ _
      omega
  have hfit : k9 + (σ1.2.1 - σ.2.1) ≤ R.cells ∧ n9 + (σ1.2.2 - σ.2.2) ≤ R.slots := by omega
  rw [g_stk]
  refine gw_run (mc := σ1.2.1 - σ.2.1) (ms := σ1.2.2 - σ.2.2) hE hc (by omega) (by omega) hf hl (g_run (vx_runVW (C := C) (As := As.map gv) (rest := rest.map gv) ⟨hc.1, hc.2.1, hc.2.2.1, hc.2.2.2.1, hts⟩ hMet (vx_cwVW As.length hts hT rfl rfl rfl hdc hRm) ⟨gPc.blind, g_recv hK hr hcl hbq, g_pre (args := vR (some b) :: As) (gCtx_warm hc) hr⟩ rfl (by rw [List.length_map]) hl.1 rfl (g_room hrest) hd hfit)) kk
theorem gw_callSW {idx nL' d' : Nat} {y : MethodName} {bytes : ByteArray} {ret : Option FieldType} {hh : List (Nat × Nat × Nat × Nat)} {As rest st0 : List gV} {v : Option gV} (hT : GoodIn lw_all (va_wsS (gm_own M) idx y (wsW_ y bytes nL' ret hh))) (hdc : y.cls ≠ "java/lang/invoke/MethodHandle" ∧ y.cls ≠ "java/lang/invoke/VarHandle" ∧ (parseMethodDescriptor y.desc).map (fun d => d.parameters.length) = some As.length) (hM : gCT E d' y (wsW_ y bytes nL' ret hh) (As) σ (.inl v) σ1) (hdp : d' + 1 ≤ gm_d M) (hnL : nL' ≤ 81) (hst : st0 = As.reverse ++ rest) (hrest : gSum rest ≤ 8) (hd : decode (gm_cc M) pc = .ok (.invokestatic idx, 3)) (kk : gCont E M Q pc 3 L rest (.inl v) σ1) : gW E M Q pc L st0 σ := by
  subst hst
  have hb := gCont_b kk
  refine ⟨Nat.le_trans hM.1 hb.1, Nat.le_trans hM.2.1 hb.2, fun hE p e s m args below meth c R hc H locs k9 n9 ls hr e1 e2 hf hl => ?_⟩

  have hMet := g_met (hM.2.2 hE)
  have hz := gCtx_cells hc
  have hn := gCtx_slots hc
  have hfr := gCtx_frames hc
  have hlo := gCtx_locals hc
  have hts := hc.2.2.2.2.1
  have hK := gK_at hE hc
  have q1 := hM.1
  have q2 := hM.2.1
  have q3 := hb.1
  have q4 := hb.2
  have hRm : (gRm d' (σ1.2.1 - σ.2.1) (σ1.2.2 - σ.2.2)).frames + 1 ≤ R.frames ∧ 8 + (nL' + 11) + (gRm d' (σ1.2.1 - σ.2.1) (σ1.2.2 - σ.2.2)).locals ≤ R.locals := by
    constructor
    · show d' + 1 ≤ _
      omega
    · show 8 + (nL' + 11) + 100 * d' ≤ _
      omega
  have hfit : k9 + (σ1.2.1 - σ.2.1) ≤ R.cells ∧ n9 + (σ1.2.2 - σ.2.2) ≤ R.slots := by omega
  rw [g_stk0]
  refine gw_run (mc := σ1.2.1 - σ.2.1) (ms := σ1.2.2 - σ.2.2) hE hc (by omega) (by omega) hf hl (g_run (vx_runSW (As := As.map gv) (rest := rest.map gv) ⟨hc.1, hc.2.1, hc.2.2.1, hc.2.2.2.1, hts⟩ hMet (vx_cwSW As.length hts hT rfl rfl rfl hdc hRm) ⟨gPc.blind, g_pre (args := As) (gCtx_warm hc) hr⟩ rfl (by rw [List.length_map]) hl.1 rfl (g_room hrest) hd hfit)) kk
theorem gw_iret {v : Int32} (hret : gm_ret M = some .int) (hz : gm_zf M = σ.2.1) (hn : gm_nf M = σ.2.2) (hd : decode (gm_cc M) pc = .ok (.ireturn, 1)) : gW E M (gQm E M (.inl (some (vI v))) σ) pc L [vI v] σ := by
  refine ⟨Nat.le_of_eq hz.symm, Nat.le_of_eq hn.symm, fun hE p e s m args below meth c R hc H locs k9 n9 ls hr e1 e2 hf hl => ?_⟩
  have hk : gm_zf M - gm_z0 M = k9 := by omega
  have hk2 : gm_nf M - gm_n0 M = n9 := by omega
  show W p (ge_l E) e R s m args below meth c H locs k9 n9 (vx_MQ below (gQc E (.inl (some (vI v))) σ) (gXC E (.inl (some (vI v))) σ) args s (gm_zf M - gm_z0 M) (gm_nf M - gm_n0 M) (gFree E)) (F0 m pc ls ([vI v].map gv))
  rw [hk, hk2]
  exact vx_ret (W.iret (v := v) hc.1 hc.2.1 (hc.2.2.2.2.2.2.1.trans hret) (fun t ht hW => ⟨some (vI v), rfl, rfl, by rw [ht]; exact hr⟩) hf hd hc.2.2.2.2.2.1)
theorem gw_zret {v : Int32} {ty : FieldType} {u : Unit} (hret : gm_ret M = some ty) (hok : gok ty v = some u) (hz : gm_zf M = σ.2.1) (hn : gm_nf M = σ.2.2) (hd : decode (gm_cc M) pc = .ok (.ireturn, 1)) : gW E M (gQm E M (.inl (some (vI v))) σ) pc L [vI v] σ := by
  refine ⟨Nat.le_of_eq hz.symm, Nat.le_of_eq hn.symm, fun hE p e s m args below meth c R hc H locs k9 n9 ls hr e1 e2 hf hl => ?_⟩
  have hk : gm_zf M - gm_z0 M = k9 := by omega
  have hk2 : gm_nf M - gm_n0 M = n9 := by omega
  show W p (ge_l E) e R s m args below meth c H locs k9 n9 (vx_MQ below (gQc E (.inl (some (vI v))) σ) (gXC E (.inl (some (vI v))) σ) args s (gm_zf M - gm_z0 M) (gm_nf M - gm_n0 M) (gFree E)) (F0 m pc ls ([vI v].map gv))
  rw [hk, hk2]
  exact vx_ret (W.zret (v := v) hc.1 hc.2.1 (hc.2.2.2.2.2.2.1.trans hret) (gok_spec hok).1 (fun t ht hW => ⟨some (vI v), rfl, rfl, by rw [ht]; exact hr⟩) hf hd hc.2.2.2.2.2.1)
theorem gw_lret {v : Int64} (hret : gm_ret M = some .long) (hz : gm_zf M = σ.2.1) (hn : gm_nf M = σ.2.2) (hd : decode (gm_cc M) pc = .ok (.lreturn, 1)) : gW E M (gQm E M (.inl (some (vJ v))) σ) pc L [vJ v] σ := by
  refine ⟨Nat.le_of_eq hz.symm, Nat.le_of_eq hn.symm, fun hE p e s m args below meth c R hc H locs k9 n9 ls hr e1 e2 hf hl => ?_⟩
  have hk : gm_zf M - gm_z0 M = k9 := by omega
  have hk2 : gm_nf M - gm_n0 M = n9 := by omega
  show W p (ge_l E) e R s m args below meth c H locs k9 n9 (vx_MQ below (gQc E (.inl (some (vJ v))) σ) (gXC E (.inl (some (vJ v))) σ) args s (gm_zf M - gm_z0 M) (gm_nf M - gm_n0 M) (gFree E)) (F0 m pc ls ([vJ v].map gv))
  rw [hk, hk2]
  exact vx_ret (W.lret (v := v) hc.1 hc.2.1 (hc.2.2.2.2.2.2.1.trans hret) (fun t ht hW => ⟨some (vJ v), rfl, rfl, by rw [ht]; exact hr⟩) hf hd hc.2.2.2.2.2.1)
theorem gw_aret {r : Option Nat} {ty : FieldType} (hret : gm_ret M = some ty) (hty : (∃ n, ty = .object n) ∨ ∃ t, ty = .array t) (hz : gm_zf M = σ.2.1) (hn : gm_nf M = σ.2.2) (hd : decode (gm_cc M) pc = .ok (.areturn, 1)) : gW E M (gQm E M (.inl (some (vR r))) σ) pc L [vR r] σ := by
  refine ⟨Nat.le_of_eq hz.symm, Nat.le_of_eq hn.symm, fun hE p e s m args below meth c R hc H locs k9 n9 ls hr e1 e2 hf hl => ?_⟩
  have hk : gm_zf M - gm_z0 M = k9 := by omega
  have hk2 : gm_nf M - gm_n0 M = n9 := by omega
  show W p (ge_l E) e R s m args below meth c H locs k9 n9 (vx_MQ below (gQc E (.inl (some (vR r))) σ) (gXC E (.inl (some (vR r))) σ) args s (gm_zf M - gm_z0 M) (gm_nf M - gm_n0 M) (gFree E)) (F0 m pc ls ([vR r].map gv))
  rw [hk, hk2]
  exact vx_ret (W.aret (v := va_rf r) hc.1 hc.2.1 (hc.2.2.2.2.2.2.1.trans hret) hty (by cases r with | none => exact Or.inl rfl | some a => exact Or.inr ⟨a, rfl⟩) (fun t ht hW => ⟨some (vR r), rfl, rfl, by rw [ht]; exact hr⟩) hf hd hc.2.2.2.2.2.1)
theorem gw_vret  (hret : gm_ret M = none) (hz : gm_zf M = σ.2.1) (hn : gm_nf M = σ.2.2) (hd : decode (gm_cc M) pc = .ok (.return_, 1)) : gW E M (gQm E M (.inl none) σ) pc L [] σ := by
  refine ⟨Nat.le_of_eq hz.symm, Nat.le_of_eq hn.symm, fun hE p e s m args below meth c R hc H locs k9 n9 ls hr e1 e2 hf hl => ?_⟩
  have hk : gm_zf M - gm_z0 M = k9 := by omega
  have hk2 : gm_nf M - gm_n0 M = n9 := by omega
  show W p (ge_l E) e R s m args below meth c H locs k9 n9 (vx_MQ below (gQc E (.inl none) σ) (gXC E (.inl none) σ) args s (gm_zf M - gm_z0 M) (gm_nf M - gm_n0 M) (gFree E)) (F0 m pc ls ([].map gv))
  rw [hk, hk2]
  exact vx_ret (W.vret hc.1 hc.2.1 (hc.2.2.2.2.2.2.1.trans hret) (fun t ht hW => ⟨none, rfl, rfl, by rw [ht]; exact hr⟩) hf hd hc.2.2.2.2.2.1)
/-- an exception leaves a method that has no handler -/
theorem gx_out {C : String} (hxt : gm_xt M = []) (hz : gm_zf M = σ.2.1) (hn : gm_nf M = σ.2.2) : gX E M (gQm E M (.inr C) σ) pc L σ C := by
  refine ⟨Nat.le_of_eq hz.symm, Nat.le_of_eq hn.symm, fun hE p e s m args below meth c R hc H locs k9 n9 ls rest q ce hr e1 e2 hf hl g1 g2 g3 => ?_⟩
  refine vx_out (E := C) (ce := ce) ?_ hc.2.2.2.2.2.1 g1 g2 g3 (fun t ht hW => ⟨rfl, by rw [ht]; exact hr⟩) hf (by omega) (by omega)
  rw [hc.2.2.2.2.2.2.2.2.1, hxt]
  intro x hx
  cases hx
/-- the entry of a method without handlers -/
theorem gCT_of {y : MethodName} {cc : ByteArray} {nL d : Nat} {ret : Option FieldType} {args : List gV} {out : gOut} {σ' : gS} (hny : gNy y) (hy : plainFor y = true) (hlen : (lg_sl (args.map gv)).length ≤ nL)
    (k : gW E (y.cls, cc, nL, ret, y.name, [], d, σ.2.1, σ.2.2, σ'.2.1, σ'.2.2) (gQm E (y.cls, cc, nL, ret, y.name, [], d, σ.2.1, σ.2.2, σ'.2.1, σ'.2.2) out σ') 0 (gArgs 0 args) [] σ) : gCT E d y (ws_ y cc nL ret) args σ out σ' := by
  refine ⟨k.1, k.2.1, fun hE => ?_⟩
  refine gx_ofW (cc := cc) (maxL := nL) (ret := ret) hy rfl ?_
  intro p e s m a below meth c s₁ B hml hxt hv
  obtain ⟨rfl, hwarm, hrel⟩ := hv
  have hts := atoms_spec (ws := ws_ y cc nL ret) B.pre
  have hl := lv_entry (args.map gv) (n := nL) hlen
  rw [lg_entry_eq]
  have k1 : σ.2.1 ≤ σ'.2.1 := k.1
  have k2 : σ.2.2 ≤ σ'.2.2 := k.2.1
  refine k.2.2 hE p e s m (args.map gv).toArray below meth c (gRm d (σ'.2.1 - σ.2.1) (σ'.2.2 - σ.2.2)) ⟨B.exec, B.bytes, hml, findClass_of_methodNamed B.named, fun w h => hts w (List.mem_cons_of_mem _ h), B.notSynchronized, B.returns, (name_of_methodNamed B.named B.method).1, ?_, hwarm, Nat.le_refl _, Nat.le_refl _, ?_, ?_, hrel.2.1, gNm_of rfl rfl hny B.named⟩ s.heap [] 0 0 _ hrel rfl rfl (fun z hz => by cases hz) ?_
  · cases h : c.exceptionTable.toList with
    | nil => rfl
    | cons x l => exact (hxt x (by rw [h]; exact List.mem_cons_self)).elim
  · show σ'.2.1 = σ.2.1 + (σ'.2.1 - σ.2.1)
    omega
  · show σ'.2.2 = σ.2.2 + (σ'.2.2 - σ.2.2)
    omega
  · rw [← gArgs_eq]
    exact hl
theorem gCT_up {d d2 : Nat} {y : MethodName} {ws : List Cond} {args : List gV} {out : gOut} (h : gCT E d y ws args σ out σ1) (hd : d = d2) : gCT E d2 y ws args σ out σ1 := hd ▸ h
end GC
/-! statics, casts, new arrays, stores of references -/
section GD
variable {E : gE} {M : gM} {Q : gQ} {pc : Nat} {L : List (Nat × gV)} {st : List gV} {σ σ1 : gS}
theorem gw_gets {C n d : String} {i idx : Nat} (hm : (C, n, d, i) ∈ gZrL) (hq : Cond.fieldLink (gm_own M) idx C n d ∈ lw_all) (hd : decode (gm_cc M) pc = .ok (.getstatic idx, 3)) (kk : gW E M Q (pc + 3) L (vR ((gk E).2 i) :: st) σ) : gW E M Q pc L st σ := by
  refine ⟨kk.1, kk.2.1, fun hE p e s m args below meth c R hc H locs k9 n9 ls hr e1 e2 hf hl => ?_⟩
  have hZ : gZr E C n d i := hE.2.2.2.2.1 _ hm
  obtain ⟨cf, kf, fi, f, a, cell, h1, h2, h3, h4, h5, h6, h7, h8⟩ := va_Z.moved (State.WarmedH.alike (gCtx_warm hc)) hZ
  exact W.gets hc.1 hc.2.1 hc.2.2.2.1 (hc.2.2.2.2.1 _ hq) h1 h2 h3 h4 (by rw [hr.2.1 a (Nat.lt_of_not_le h8)]; exact h5) (fun e => by rw [e] at h6; cases h6) h7 rfl hd (kk.2.2 hE p e s m args below meth c R hc H locs k9 n9 ls hr e1 e2 hf hl)
theorem gw_getsi {C n d : String} {v : Int32} {idx : Nat} (hm : (C, n, d, v) ∈ gZiL) (hq : Cond.fieldLink (gm_own M) idx C n d ∈ lw_all) (hd : decode (gm_cc M) pc = .ok (.getstatic idx, 3)) (kk : gW E M Q (pc + 3) L (vI v :: st) σ) : gW E M Q pc L st σ := by
  refine ⟨kk.1, kk.2.1, fun hE p e s m args below meth c R hc H locs k9 n9 ls hr e1 e2 hf hl => ?_⟩
  have hZ : gZi E C n d v := hE.2.2.2.2.2.1 _ hm
  obtain ⟨cf, kf, fi, f, a, cell, h1, h2, h3, h4, h5, h6, h7, h8⟩ := va_Z.moved (State.WarmedH.alike (gCtx_warm hc)) hZ
  exact W.gets hc.1 hc.2.1 hc.2.2.2.1 (hc.2.2.2.2.1 _ hq) h1 h2 h3 h4 (by rw [hr.2.1 a (Nat.lt_of_not_le h8)]; exact h5) (fun e => by rw [e] at h6; cases h6) h7 rfl hd (kk.2.2 hE p e s m args below meth c R hc H locs k9 n9 ls hr e1 e2 hf hl)
theorem gw_ldcS {own tx : String} {i idx : Nat} (how : gm_own M = own) (hm : (own, idx, tx, i) ∈ gStrL) (hd : decode (gm_cc M) pc = .ok (.ldc idx, 2)) (kk : gW E M Q (pc + 2) L (vR ((gk E).2 i) :: st) σ) : gW E M Q pc L st σ := by
  refine ⟨kk.1, kk.2.1, fun hE p e s m args below meth c R hc H locs k9 n9 ls hr e1 e2 hf hl => ?_⟩
  obtain ⟨a, ha, hst⟩ := hE.2.2.2.2.2.2.1 _ hm
  have h9 := kk.2.2 hE p e s m args below meth c R hc H locs k9 n9 ls hr e1 e2 hf hl
  rw [ha] at h9
  exact va_ldcS hc.1 hc.2.1 (own := own) (by rw [← how]; exact hc.2.2.2.1) (vk_R.warm (gCtx_warm hc) hst) hd h9
theorem gw_ldcSW {own tx : String} {i idx : Nat} (how : gm_own M = own) (hm : (own, idx, tx, i) ∈ gStrL) (hd : decode (gm_cc M) pc = .ok (.ldc_w idx, 3)) (kk : gW E M Q (pc + 3) L (vR ((gk E).2 i) :: st) σ) : gW E M Q pc L st σ := by
  refine ⟨kk.1, kk.2.1, fun hE p e s m args below meth c R hc H locs k9 n9 ls hr e1 e2 hf hl => ?_⟩
  obtain ⟨a, ha, hst⟩ := hE.2.2.2.2.2.2.1 _ hm
  have h9 := kk.2.2 hE p e s m args below meth c R hc H locs k9 n9 ls hr e1 e2 hf hl
  rw [ha] at h9
  have hZ := vk_R.warm (gCtx_warm hc) hst
  subst how
  intro T hT X
  obtain ⟨t, a1, b1⟩ := h9 T hT X
  exact ⟨t, X.ldcStringW hc.1 hc.2.2.2.1 (text := tx) (a := a) hZ.1 hZ.2 (g := F0 m pc ls (st.map gv)) rfl (by rw [hc.2.1]; exact hd) t a1, b1⟩
/-- null, or an object of class ci -/
def gcc (σ : gS) (r : Option Nat) (ci : Nat) : Option Unit := match r with
  | none => some ()
  | some a => gck σ (some a) ci
theorem gcc_eq {a ci : Nat} {fs : List Value} (h : σ.1 a = some (.inr (ci, fs))) : gcc σ (some a) ci = some () := gck_eq h
theorem g_asg {C nm : String} {s : State} {cell : Cell} (hE : gEnv E) (hW : (ge_s E).WarmedH s.vm) (hca : ClassAt s C cell.cls) (hcast : C = nm ∨ Cond.castable C nm ∈ lw_tbl) : ∃ t, s.vm.findClass nm = some t ∧ s.vm.assignable cell.cls t = true := by
  rcases hcast with rfl | hq
  · exact ⟨cell.cls, hca.1, va_assign hca⟩
  · obtain ⟨c0, t0, f1, f2, f3⟩ := Cond.castable_spec (va_Nw.use (A := #[]) rfl (va_Nw.warmC hW (va_Nw.of rfl (hE.1 _ hq))))
    cases hca.1.symm.trans f1
    exact ⟨t0, f2, f3⟩
theorem gw_cast {C nm : String} {T : u_T} {N ci idx : Nat} {r : Option Nat} {u : Unit} (hcl : gCl[ci]? = some (C, T, N)) (h : gcc σ r ci = some u) (hq : Cond.classLink (gm_own M) idx nm ∈ lw_all) (hcast : C = nm ∨ Cond.castable C nm ∈ lw_tbl) (hd : decode (gm_cc M) pc = .ok (.checkcast idx, 3)) (kk : gW E M Q (pc + 3) L (vR r :: st) σ) : gW E M Q pc L (vR r :: st) σ := by
  cases r with
  | none => exact gw_lift (fun hx hb w => lv_castN hx hb hd w) kk
  | some a =>
    obtain ⟨a', fs, e9, ha⟩ := gck_spec (show gck σ (some a) ci = some u from h)
    cases e9
    refine ⟨kk.1, kk.2.1, fun hE p e s m args below meth c R hc H locs k9 n9 ls hr e1 e2 hf hl => ?_⟩
    have hK := gK_at hE hc
    obtain ⟨cell, h1, h2, h3⟩ := g_recv hK hr hcl ha
    have hCA : ClassAt s C cell.cls := by
      have h9 := (hK.1 ci _ hcl).2
      have e9 : (ge_D E).1 ci = cell.cls := Option.some.inj (h9.1.symm.trans h3)
      rw [← e9]; exact h9
    obtain ⟨t0, f2, f3⟩ := g_asg hE (gCtx_warm hc) hCA hcast
    intro Z hZ X
    obtain ⟨vm', X', stp⟩ := X.checkcastYes hc.1 hc.2.2.2.1 (hc.2.2.2.2.1 _ hq) (by rw [hZ]; exact h1) h2 f2 f3 (g := F0 m pc ls (.ref a :: st.map gv)) rfl rfl (by rw [hc.2.1]; exact hd)
    obtain ⟨t, a1, b1⟩ := kk.2.2 hE p e s m args below meth c R hc H locs k9 n9 ls hr e1 e2 hf hl (Z.setVm vm') hZ X'
    exact ⟨t, stp t a1, b1⟩
/-- 'checkcast' of an array to its own type -/
def gct (σ : gS) (r : Option Nat) (t : Nat) : Option Unit := match r with
  | none => some ()
  | some a => match σ.1 a with
    | some (.inl q) => if q.1 = t then some () else none
    | _ => none
theorem gw_castA {nm : String} {ty : FieldType} {t idx : Nat} {r : Option Nat} {u : Unit} (hty : gTyL[t]? = some ty) (hnm : nm = "[" ++ ty.toString) (h : gct σ r t = some u) (hq : Cond.classLink (gm_own M) idx nm ∈ lw_all) (hd : decode (gm_cc M) pc = .ok (.checkcast idx, 3)) (kk : gW E M Q (pc + 3) L (vR r :: st) σ) : gW E M Q pc L (vR r :: st) σ := by
  subst hnm
  cases r with
  | none => exact gw_lift (fun hx hb w => lv_castN hx hb hd w) kk
  | some a =>
    simp only [gct] at h
    split at h
    · rename_i q ha
      split at h
      · rename_i e9
        subst e9
        refine ⟨kk.1, kk.2.1, fun hE p e s m args below meth c R hc H locs k9 n9 ls hr e1 e2 hf hl => ?_⟩
        obtain ⟨cell, h1, h2, h3, -⟩ := hr.2.2.2 a _ ha
        have hRA := ((gK_at hE hc).2 q.1 _ (gTy_at hty)).2
        have hfc : s.vm.findClass ("[" ++ ty.toString) = some (ge_A E q.1) := by
          cases ty with
          | object C9 => exact hRA.choose_spec.choose_spec.2.2.2
          | _ => exact hRA
        intro Z hZ X
        obtain ⟨vm', X', stp⟩ := X.checkcastYes hc.1 hc.2.2.2.1 (hc.2.2.2.2.1 _ hq) (by rw [hZ]; exact h1) (g_nost h2.2.1) hfc (by rw [h3]; exact va_asg _ _) (g := F0 m pc ls (.ref a :: st.map gv)) rfl rfl (by rw [hc.2.1]; exact hd)
        obtain ⟨t, a1, b1⟩ := kk.2.2 hE p e s m args below meth c R hc H locs k9 n9 ls hr e1 e2 hf hl (Z.setVm vm') hZ X'
        exact ⟨t, stp t a1, b1⟩
      · cases h
    · cases h
/-- instanceof: classes that are, classes that aren't -/
def gio (σ : gS) (r : Option Nat) (ys ns : List Nat) : Option Int32 := match r with
  | none => some 0
  | some a => match σ.1 a with
    | some (.inr o) => if o.1 ∈ ys then some 1 else if o.1 ∈ ns then some 0 else none
    | _ => none
def gIsA (ci : Nat) (nm : String) : Prop := ∃ q, gCl[ci]? = some q ∧ (q.1 = nm ∨ Cond.castable q.1 nm ∈ lw_tbl)
def gIsNo (ci : Nat) (nm : String) : Prop := ∃ q, gCl[ci]? = some q ∧ (q.1, nm) ∈ gNcL
theorem gw_inst {nm : String} {idx : Nat} {r : Option Nat} {v : Int32} {ys ns : List Nat} (hy : ∀ ci ∈ ys, gIsA ci nm) (hn : ∀ ci ∈ ns, gIsNo ci nm) (h : gio σ r ys ns = some v) (hq : Cond.classLink (gm_own M) idx nm ∈ lw_all) (hd : decode (gm_cc M) pc = .ok (.instanceof idx, 3)) (kk : gW E M Q (pc + 3) L (vI v :: st) σ) : gW E M Q pc L (vR r :: st) σ := by
  cases r with
  | none => cases h; exact gw_lift (fun hx hb w => lv_instN hx hb hd w) kk
  | some a =>
    simp only [gio] at h
    split at h
    · rename_i o ha
      refine ⟨kk.1, kk.2.1, fun hE p e s m args below meth c R hc H locs k9 n9 ls hr e1 e2 hf hl => ?_⟩
      have hK := gK_at hE hc
      have k2 := kk.2.2 hE p e s m args below meth c R hc H locs k9 n9 ls hr e1 e2 hf hl
      split at h
      · rename_i hm
        cases h
        obtain ⟨⟨C, T, N⟩, hcl, hcast⟩ := hy _ hm
        obtain ⟨cell, h1, h2, h3⟩ := g_recv hK hr hcl ha
        have hCA : ClassAt s C cell.cls := by
          have h9 := (hK.1 o.1 _ hcl).2
          have e9 : (ge_D E).1 o.1 = cell.cls := Option.some.inj (h9.1.symm.trans h3)
          rw [← e9]; exact h9
        obtain ⟨t0, f2, f3⟩ := g_asg hE (gCtx_warm hc) hCA hcast
        intro Z hZ X
        obtain ⟨vm', X', stp⟩ := X.instanceofYes hc.1 hc.2.2.2.1 (hc.2.2.2.2.1 _ hq) (by rw [hZ]; exact h1) h2 f2 f3 (g := F0 m pc ls (.ref a :: st.map gv)) rfl rfl (by rw [hc.2.1]; exact hd)
        obtain ⟨t, a1, b1⟩ := k2 (Z.setVm vm') hZ X'
        exact ⟨t, stp t a1, b1⟩
      · split at h
        · rename_i hm
          cases h
          obtain ⟨⟨C, T, N⟩, hcl, hno⟩ := hn _ hm
          have hNc : va_Nc C nm s := va_Nc.moved (State.WarmedH.alike (gCtx_warm hc)) (hE.2.2.2.2.2.2.2.2.1 _ hno)
          exact va_instNo hc.1 hc.2.1 hc.2.2.2.1 (hc.2.2.2.2.1 _ hq) hNc (g_recv hK hr hcl ha) hd k2
        · cases h
    · cases h
/-- new arrays of numbers -/
def gna (σ : gS) (t : Nat) (n : Int32) : Option (Option Nat × gS) := if ¬ n < 0 ∧ n.toNatClampNeg ≤ 60000000 then some (some σ.2.1, gpush σ (.inl (t, gz t n.toNatClampNeg)) n.toNatClampNeg) else none
theorem gna_spec {t : Nat} {n : Int32} {r : Option Nat} (h : gna σ t n = some (r, σ1)) : ¬ n < 0 ∧ n.toNatClampNeg ≤ 60000000 ∧ r = some σ.2.1 ∧ σ1 = gpush σ (.inl (t, gz t n.toNatClampNeg)) n.toNatClampNeg := by
  unfold gna at h
  split at h
  · rename_i e; cases h; exact ⟨e.1, e.2, rfl, rfl⟩
  · cases h
theorem gz_val (t n : Nat) : (∀ j, g_val (gz t n) j = g_val (gz t n) 0) ∧ (gz t n).1 = n := by
  match t with
  | 0 => exact ⟨fun _ => rfl, rfl⟩
  | 1 => exact ⟨fun _ => rfl, rfl⟩
  | 2 => exact ⟨fun _ => rfl, rfl⟩
  | t + 3 => exact ⟨fun _ => rfl, rfl⟩
theorem g_at.exact {a t : Nat} {x : vp_A} {H1 : Heap} (h1 : H1[a]? = some (vp_cell (ge_A E t) x)) : g_at E a (.inl (t, x)) H1 := by
  have hv : (vp_cell (ge_A E t) x).vm = .none := by rw [vp_cell_g]; rfl
  have hs : (vp_cell (ge_A E t) x).slots.size = x.1 := by rw [vp_cell_g, arrV_size]
  refine ⟨_, h1, ⟨by rw [hv]; exact fun h => (by cases h), fun k => by rw [hv]; exact fun h => (by cases h), fun _ => hv⟩, (by rw [vp_cell_g]; rfl), Nat.le_of_eq hs.symm, (by rw [hs]), fun j hj => ?_, fun _ => rfl⟩
  have hj : j < x.1 := hj
  rw [vp_cell_g, arrV_read _ _ hj]
theorem g_at.born {a t n : Nat} {v : Value} {H1 : Heap} (hv : v = g_val (gz t n) 0) (h1 : H1[a]? = some ({ cls := ge_A E t, slots := Array.replicate n v, vm := .none } : Cell)) : g_at E a (.inl (t, gz t n)) H1 := by
  refine g_at.exact ?_
  rw [h1, arrV_new, vp_cell_g, (gz_val t n).2]
  have e : g_val (gz t n) = fun _ => v := by
    funext j
    rw [hv]
    exact (gz_val t n).1 j
  rw [e]
theorem gw_newarr {atype : ArrayType} {ty : FieldType} {t : Nat} {n : Int32} {r : Option Nat} (hty : gTyL[t]? = some ty) (hat : newarray.typeOf atype = ty) (hpr : refKind ty = false) (hb8 : componentBytes ty ≤ 8) (hdv : defaultValue ty = g_val (gz t 0) 0) (harr : Cond.arrayClass (newarray.typeOf atype) ∈ lw_all) (h : gna σ t n = some (r, σ1)) (hd : decode (gm_cc M) pc = .ok (.newarray atype, 2)) (kk : gW E M Q (pc + 2) L (vR r :: st) σ1) : gW E M Q pc L (vI n :: st) σ := by
  obtain ⟨h1, h2, rfl, rfl⟩ := gna_spec h
  have hk1 : σ.2.1 + 1 ≤ gm_zf M := kk.1
  have hk2 : σ.2.2 + n.toNatClampNeg ≤ gm_nf M := kk.2.1
  refine ⟨by omega, by omega, fun hE p e s m args below meth c R hc H locs k9 n9 ls hr e1 e2 hf hl => ?_⟩
  have hz := gCtx_cells hc
  have hn := gCtx_slots hc
  refine W.newa hc.1 hc.2.1 (hc.2.2.2.2.1 _ harr) rfl hd rfl h1 ?_ (by omega) (by omega) fun cA kA comp g1 g2 g3 => ?_
  · rw [hat]
    exact Nat.le_trans (Nat.mul_le_mul h2 hb8) (by decide)
  · rw [hat] at g1 g3 ⊢
    have hRA := ((gK_at hE hc).2 t _ (gTy_at hty)).2
    have hcA : cA = ge_A E t := by
      refine Option.some.inj (g1.symm.trans ?_)
      cases ty with
      | object C9 => cases hpr
      | _ => exact hRA
    subst hcA
    rw [show (Value.ref (Array.size H)) = gv (vR (some σ.2.1)) by rw [hr.1]; rfl]
    refine kk.2.2 hE p e s m args below meth c R hc _ locs (k9 + 1) (n9 + n.toNatClampNeg) ls (hr.push (by simp) (fun q hq => by rw [Array.getElem?_push, if_neg (Nat.ne_of_lt hq)]) (g_at.born (v := defaultValue ty) ?_ (by simp))) (by show σ.2.1 + 1 = _; omega) (by show σ.2.2 + _ = _; omega) hf hl
    rw [hdv]
    have hz9 : g_val (gz t 0) 0 = g_val (gz t n.toNatClampNeg) 0 := by
      match t with
      | 0 => rfl
      | 1 => rfl
      | 2 => rfl
      | t + 3 => rfl
    rw [hz9]
theorem gw_anewarr {C : String} {t idx : Nat} {n : Int32} {r : Option Nat} (ht : 2 < t) (hty : gTyL[t]? = some (.object C)) (hq : Cond.classLink (gm_own M) idx C ∈ lw_all) (hov : Cond.arrayOver (.object C) ∈ lw_tbl) (h : gna σ t n = some (r, σ1)) (hd : decode (gm_cc M) pc = .ok (.anewarray idx, 3)) (kk : gW E M Q (pc + 3) L (vR r :: st) σ1) : gW E M Q pc L (vI n :: st) σ := by
  obtain ⟨h1, h2, rfl, rfl⟩ := gna_spec h
  have hk1 : σ.2.1 + 1 ≤ gm_zf M := kk.1
  have hk2 : σ.2.2 + n.toNatClampNeg ≤ gm_nf M := kk.2.1
  refine ⟨by omega, by omega, fun hE p e s m args below meth c R hc H locs k9 n9 ls hr e1 e2 hf hl => ?_⟩
  have hz := gCtx_cells hc
  have hn := gCtx_slots hc
  have hAO : va_AO C s := va_AO.moved (State.WarmedH.alike (gCtx_warm hc)) (va_AO.of (hE.1 _ hov))
  refine W.anew hc.1 hc.2.1 hc.2.2.2.1 (hc.2.2.2.2.1 _ hq) (va_AO.use hAO) rfl hd rfl h1 (by omega) (by omega) (by omega) fun cA kA comp g1 g2 g3 g4 => ?_
  have hRA := ((gK_at hE hc).2 t _ (gTy_at hty)).2
  have hcA : cA = ge_A E t := Option.some.inj (g1.symm.trans hRA.choose_spec.choose_spec.2.2.2)
  subst hcA
  rw [show (Value.ref (Array.size H)) = gv (vR (some σ.2.1)) by rw [hr.1]; rfl]
  refine kk.2.2 hE p e s m args below meth c R hc _ locs (k9 + 1) (n9 + n.toNatClampNeg) ls (hr.push (by simp) (fun q hq => by rw [Array.getElem?_push, if_neg (Nat.ne_of_lt hq)]) (g_at.born (v := .null) ?_ (by simp))) (by show σ.2.1 + 1 = _; omega) (by show σ.2.2 + _ = _; omega) hf hl
  have hz9 : g_val (gz t n.toNatClampNeg) 0 = .null := by
    match t, ht with
    | t + 3, _ => rfl
  rw [hz9]
/-- a reference is stored: null, an object of a class that goes into the array, or one of the enum's constants -/
def gOkA : List (Nat × Nat) := [(3, 1), (5, 4), (6, 5), (7, 11), (8, 7)]
def gokR (κ : gK) (σ : gS) (t : Nat) (v : Option Nat) : Prop := match v with
  | none => True
  | some b => (match σ.1 b with
    | some (.inr o) => (t, o.1) ∈ gOkA
    | _ => False) ∨ (t = 4 ∧ (some b = κ.2 0 ∨ some b = κ.2 1 ∨ some b = κ.2 2))
noncomputable def gsR (κ : gK) (σ : gS) (r : Option Nat) (i : Int32) (v : Option Nat) : Option gS := match r with
  | none => none
  | some a => match σ.1 a with
    | some (.inl (t, n, .inr (.inr (.inr (.inr f))))) => @ite _ ((2 < t ∧ t < 9) ∧ ¬ (i < 0 ∨ n ≤ i.toNatClampNeg) ∧ κ.1 ≤ a ∧ gokR κ σ t v) (Classical.propDecidable _) (some (gup σ a (.inl (t, n, .inr (.inr (.inr (.inr (va_up f i.toNatClampNeg v)))))))) none
    | _ => none
theorem gsR_spec {κ : gK} {r v : Option Nat} {i : Int32} (h : gsR κ σ r i v = some σ1) : ∃ a t n f, r = some a ∧ σ.1 a = some (.inl (t, n, .inr (.inr (.inr (.inr f))))) ∧ (2 < t ∧ t < 9) ∧ ¬ (i < 0 ∨ n ≤ i.toNatClampNeg) ∧ κ.1 ≤ a ∧ gokR κ σ t v ∧ σ1 = gup σ a (.inl (t, n, .inr (.inr (.inr (.inr (va_up f i.toNatClampNeg v)))))) := by
  cases r with
  | none => cases h
  | some a =>
    simp only [gsR] at h
    split at h
    · rename_i t n f hq
      split at h
      · rename_i e; cases h; exact ⟨a, t, n, f, rfl, hq, e.1, e.2.1, e.2.2.1, e.2.2.2, rfl⟩
      · cases h
    · cases h
theorem gsR_eq {κ : gK} {a t n : Nat} {f : Nat → Option Nat} {i : Int32} {v : Option Nat} (h : σ.1 a = some (.inl (t, n, .inr (.inr (.inr (.inr f)))))) (ht : 2 < t ∧ t < 9) (hi : ¬ (i < 0 ∨ n ≤ i.toNatClampNeg)) (ha : κ.1 ≤ a) (hv : gokR κ σ t v) : gsR κ σ (some a) i v = some (gup σ a (.inl (t, n, .inr (.inr (.inr (.inr (va_up f i.toNatClampNeg v))))))) := by
  simp only [gsR, h]
  rw [if_pos ⟨ht, hi, ha, hv⟩]
theorem gOkA_ok : ∀ q ∈ gOkA, ∃ C T N E9, gCl[q.2]? = some (C, T, N) ∧ gTyL[q.1]? = some (.object E9) ∧ (C = E9 ∨ Cond.castable C E9 ∈ lw_tbl) := by
  intro q hq
  rcases List.mem_cons.mp hq with rfl | hq
  · exact ⟨_, _, _, _, rfl, rfl, Or.inl rfl⟩
  rcases List.mem_cons.mp hq with rfl | hq
  · exact ⟨_, _, _, _, rfl, rfl, Or.inl rfl⟩
  rcases List.mem_cons.mp hq with rfl | hq
  · exact ⟨_, _, _, _, rfl, rfl, Or.inl rfl⟩
  rcases List.mem_cons.mp hq with rfl | hq
  · exact ⟨_, _, _, _, rfl, rfl, Or.inr q3180⟩
  rcases List.mem_cons.mp hq with rfl | hq
  · exact ⟨_, _, _, _, rfl, rfl, Or.inr q3148⟩
  cases hq
theorem g_stEl {s : State} {H : Heap} {t b : Nat} (hE : gEnv E) (hW : (ge_s E).WarmedH s.vm) (hK : va_K (ge_D E) gCl (gTys (ge_A E)) s) (hr : gRel E σ H) (hv : gokR (gk E) σ t (some b)) : ∃ E9, gTyL[t]? = some (.object E9) ∧ ∃ cell : Cell, H[b]? = some cell ∧ cell.vm.isStatics = false ∧ (∃ kv, s.vm.classes[cell.cls]? = some kv) ∧ ∃ comp, s.vm.findClass E9 = some comp ∧ s.vm.assignable cell.cls comp = true := by
  rcases hv with hv | ⟨rfl, hv⟩
  · split at hv
    · rename_i o ho
      obtain ⟨C, T, N, E9, h1, h2, h3⟩ := gOkA_ok _ hv
      obtain ⟨cell, g1, g2, g3⟩ := g_recv hK hr h1 ho
      have hCA : ClassAt s C cell.cls := by
        have h9 := (hK.1 o.1 _ h1).2
        have e9 : (ge_D E).1 o.1 = cell.cls := Option.some.inj (h9.1.symm.trans g3)
        rw [← e9]; exact h9
      obtain ⟨kv, hkv, -⟩ := hCA.2
      exact ⟨E9, h2, cell, g1, g2, ⟨kv, hkv⟩, g_asg hE hW hCA h3⟩
    · exact hv.elim
  · have key : ∀ i C, (C, i) ∈ gObjL → Cond.castable C "PageGarden$State" ∈ lw_tbl → some b = (gk E).2 i → ∃ cell : Cell, H[b]? = some cell ∧ cell.vm.isStatics = false ∧ (∃ kv, s.vm.classes[cell.cls]? = some kv) ∧ ∃ comp, s.vm.findClass "PageGarden$State" = some comp ∧ s.vm.assignable cell.cls comp = true := by
      intro i C hm hq hb
      obtain ⟨cell, g1, g2, g3⟩ := g_objAt hE hW hm hb.symm hr
      obtain ⟨c0, t0, f1, f2, f3⟩ := Cond.castable_spec (va_Nw.use (A := #[]) rfl (va_Nw.warmC hW (va_Nw.of rfl (hE.1 _ hq))))
      cases g3.symm.trans f1
      obtain ⟨kv, hkv, -⟩ := Vm.findClass_spec g3
      exact ⟨cell, g1, g2, ⟨kv, hkv⟩, t0, f2, f3⟩
    refine ⟨_, rfl, ?_⟩
    rcases hv with hv | hv | hv
    · exact key 0 "PageGarden$State$1" (by decide) q3177 hv
    · exact key 1 "PageGarden$State$2" (by decide) q3178 hv
    · exact key 2 "PageGarden$State$3" (by decide) q3179 hv
theorem gw_aastore {r v : Option Nat} {i : Int32} (h : gsR (gk E) σ r i v = some σ1) (hd : decode (gm_cc M) pc = .ok (.aastore, 1)) (kk : gW E M Q (pc + 1) L st σ1) : gW E M Q pc L (vR v :: vI i :: vR r :: st) σ := by
  obtain ⟨a, t, n, f, rfl, hq, ht, hi, hba, hv, rfl⟩ := gsR_spec h
  refine ⟨kk.1, kk.2.1, fun hE p e s m args below meth c R hc H locs k9 n9 ls hr e1 e2 hf hl => ?_⟩
  obtain ⟨cell, g1, g2, g3, g4, g5, g6, g7⟩ := hr.2.2.2 a _ hq
  have hK := gK_at hE hc
  have hlt : i.toNatClampNeg < n := Nat.not_le.mp fun q => hi (Or.inr q)
  have h0 : ¬ i < 0 := fun q => hi (Or.inl q)
  have g4 : n ≤ cell.slots.size := g4
  have hba : (ge_s E).heap.size ≤ a := by rw [← hE.2.2.2.1]; exact hba
  have hin : ¬ (i < 0 ∨ cell.slots.size ≤ i.toNatClampNeg) := fun q => hi (q.imp id (fun z => Nat.le_trans g4 z))
  have fin : ∀ (w : Value) (H1 : Heap), w = va_rf v → H1[a]? = some (cell.setSlot i.toNatClampNeg w) → H1.size = H.size → (∀ q, q ≠ a → H1[q]? = H[q]?) → W p (ge_l E) e R s m args below meth c H1 (locs ++ [⟨a, i.toNatClampNeg⟩]) k9 n9 (Q below args s) (F0 m (pc + 1) ls (st.map gv)) := by
    intro w H1 hw f1 z1 o1
    refine kk.2.2 hE p e s m args below meth c R hc H1 _ k9 n9 ls (hr.up z1 o1 hba (g_at.store (v := w) g2 g3 g4 g5 g6 hlt g7 (fun j => ?_) f1)) e1 e2 (fun z hz => ?_) hl
    · subst hw
      by_cases e : j = i.toNatClampNeg
      · simp [g_val, va_up, e]
      · simp [g_val, va_up, e]
    · rcases List.mem_append.mp hz with hz | hz
      · exact hf z hz
      · rw [List.mem_singleton.mp hz]; exact hba
  cases v with
  | none =>
    obtain ⟨ty, hty⟩ := gTy_lt ht.2
    have hty9 : ∃ C9, gTyL[t]? = some (.object C9) := by
      match t, ht with
      | 3, _ => exact ⟨_, rfl⟩
      | 4, _ => exact ⟨_, rfl⟩
      | 5, _ => exact ⟨_, rfl⟩
      | 6, _ => exact ⟨_, rfl⟩
      | 7, _ => exact ⟨_, rfl⟩
      | 8, _ => exact ⟨_, rfl⟩
    obtain ⟨C9, hC9⟩ := hty9
    exact va_WaastN hc.1 hc.2.1 g1 (g_isArr (tys := []) hK hC9 g2 g3) g2.1 hin rfl rfl hd (fun H1 f1 z1 o1 => fin _ H1 rfl f1 z1 o1)
  | some b =>
    obtain ⟨E9, hE9, cv, w1, w2, ⟨kv, w3⟩, comp, w4, w5⟩ := g_stEl hE (gCtx_warm hc) hK hr hv
    obtain ⟨kA, comp2, k1, k2, k3, -⟩ := (hK.2 t _ (gTy_at hE9)).2
    cases w4.symm.trans k3
    obtain ⟨kc, hkc, -⟩ := Vm.findClass_spec k3
    exact W.aast hc.1 hc.2.1 g1 g2.2.1 g2.1 (by rw [g3]; exact k1) k2 rfl hkc ⟨h0, Nat.lt_of_lt_of_le hlt g4⟩ w1 (fun q h => by rw [h] at w2; cases w2) w3 w5 rfl rfl hd (fun H1 f1 z1 o1 => fin _ H1 rfl f1 z1 o1)
theorem gw_objInit {r : Option Nat} {idx : Nat} (hrs : r.isSome = true) (h1 : Cond.methodLink (gm_own M) idx Lib.objectInit ∈ lw_all) (h2 : Cond.instanceMethod Lib.objectInit ∈ lw_all) (h3 : Cond.code Lib.objectInit ⟨#[0xb1]⟩ 1 none ∈ lw_all) (hdp : 1 ≤ gm_d M) (hrest : gSum st ≤ 8) (hd : decode (gm_cc M) pc = .ok (.invokespecial idx, 3)) (kk : gW E M Q (pc + 3) L st σ) : gW E M Q pc L (vR r :: st) σ := by
  obtain ⟨b, rfl⟩ : ∃ b, r = some b := by cases r with | none => cases hrs | some b => exact ⟨b, rfl⟩
  refine ⟨kk.1, kk.2.1, fun hE p e s m args below meth c R hc H locs k9 n9 ls hr e1 e2 hf hl => ?_⟩
  have hts := hc.2.2.2.2.1
  have hfr := gCtx_frames hc
  have hlo := gCtx_locals hc
  refine W.objInit hc.1 hc.2.1 hc.2.2.2.1 (hts _ h1) (hts _ h2) (hts _ h3) rfl (by rw [hc.2.2.1]; exact hl.1) rfl hd (by omega) ?_ (kk.2.2 hE p e s m args below meth c R hc H locs k9 n9 ls hr e1 e2 hf hl)
  show 2 * 0 + _ + 12 ≤ _
  rw [gSum_eq]
  omega
theorem gw_mmax {x y : Int32} {idx : Nat} (h1 : Cond.methodLink (gm_own M) idx Lib.Math.max.name ∈ lw_all) (h2 : Cond.static Lib.Math.max.name ∈ lw_all) (h3 : Cond.initialized "java/lang/Math" ∈ lw_all) (h4 : Cond.code Lib.Math.max.name Lib.Math.max.code 2 (some .int) ∈ lw_all) (hdp : 1 ≤ gm_d M) (hrest : gSum st ≤ 8) (hd : decode (gm_cc M) pc = .ok (.invokestatic idx, 3)) (kk : gW E M Q (pc + 3) L (vI (if x < y then y else x) :: st) σ) : gW E M Q pc L (vI y :: vI x :: st) σ := by
  refine ⟨kk.1, kk.2.1, fun hE p e s m args below meth c R hc H locs k9 n9 ls hr e1 e2 hf hl => ?_⟩
  have hts := hc.2.2.2.2.1
  have hfr := gCtx_frames hc
  have hlo := gCtx_locals hc
  have hz := gCtx_cells hc
  have hn := gCtx_slots hc
  have b1 := kk.1
  have b2 := kk.2.1
  refine va_mmax hc.1 hc.2.1 (by rw [hc.2.2.1]; exact hl.1.symm) hc.2.2.2.1 (hts _ h1) (hts _ h2) (hts _ h3) (hts _ h4) (by omega) ?_ (by omega) (by omega) hd (kk.2.2 hE p e s m args below meth c R hc H locs k9 n9 ls hr e1 e2 hf hl)
  rw [gSum_eq]
  omega
theorem gw_mmin {x y : Int32} {idx : Nat} (h1 : Cond.methodLink (gm_own M) idx Lib.Math.min.name ∈ lw_all) (h2 : Cond.static Lib.Math.min.name ∈ lw_all) (h3 : Cond.initialized "java/lang/Math" ∈ lw_all) (h4 : Cond.code Lib.Math.min.name Lib.Math.min.code 2 (some .int) ∈ lw_all) (hdp : 1 ≤ gm_d M) (hrest : gSum st ≤ 8) (hd : decode (gm_cc M) pc = .ok (.invokestatic idx, 3)) (kk : gW E M Q (pc + 3) L (vI (if y < x then y else x) :: st) σ) : gW E M Q pc L (vI y :: vI x :: st) σ := by
  refine ⟨kk.1, kk.2.1, fun hE p e s m args below meth c R hc H locs k9 n9 ls hr e1 e2 hf hl => ?_⟩
  have hts := hc.2.2.2.2.1
  have hfr := gCtx_frames hc
  have hlo := gCtx_locals hc
  have hz := gCtx_cells hc
  have hn := gCtx_slots hc
  have b1 := kk.1
  have b2 := kk.2.1
  refine va_mmin hc.1 hc.2.1 (by rw [hc.2.2.1]; exact hl.1.symm) hc.2.2.2.1 (hts _ h1) (hts _ h2) (hts _ h3) (hts _ h4) (by omega) ?_ (by omega) (by omega) hd (kk.2.2 hE p e s m args below meth c R hc H locs k9 n9 ls hr e1 e2 hf hl)
  rw [gSum_eq]
  omega
end GD
/-! helpers of the printed walks -/
section GF
variable {E : gE} {M : gM} {Q : gQ} {pc : Nat} {L : List (Nat × gV)} {st : List gV} {σ σ1 : gS}
theorem gCont_i {n : Nat} {v : gV} {rest : List gV} (h : gW E M Q (pc + n) L (v :: rest) σ1) : gCont E M Q pc n L rest (.inl (some v)) σ1 := h
theorem gCont_v {n : Nat} {rest : List gV} (h : gW E M Q (pc + n) L rest σ1) : gCont E M Q pc n L rest (.inl none) σ1 := h
theorem gCont_x {n : Nat} {rest : List gV} {C : String} (h : gX E M Q pc L σ1 C) : gCont E M Q pc n L rest (.inr C) σ1 := h
theorem lg_len (l : List gV) : (lg_sl (l.map gv)).length = gSum l := by
  induction l with
  | nil => rfl
  | cons v l ih =>
    have e : lg_sl ((v :: l).map gv) = (if (gv v).category = 2 then [.val (gv v), .second] else [.val (gv v)]) ++ lg_sl (l.map gv) := rfl
    have e2 : gSum (v :: l) = gcat v + gSum l := rfl
    rw [e, List.length_append, ih, gv_cat, e2]
    match v with
    | .inl _ => rfl
    | .inr (.inl _) => rfl
    | .inr (.inr (.inl _)) => rfl
    | .inr (.inr (.inr _)) => rfl
theorem gCT_of2 {y : MethodName} {cc : ByteArray} {nL d : Nat} {ret : Option FieldType} {args : List gV} {out : gOut} {σ' : gS} (hny : gNy y) (hy : plainFor y = true) (hlen : gSum args ≤ nL)
    (k : gW E (y.cls, cc, nL, ret, y.name, [], d, σ.2.1, σ.2.2, σ'.2.1, σ'.2.2) (gQm E (y.cls, cc, nL, ret, y.name, [], d, σ.2.1, σ.2.2, σ'.2.1, σ'.2.2) out σ') 0 (gArgs 0 args) [] σ) : gCT E d y (ws_ y cc nL ret) args σ out σ' := gCT_of hny hy (by rw [lg_len]; exact hlen) k
def gsm (r : Option Nat) : Option Unit := if r.isSome = true then some () else none
theorem gsm_spec {r : Option Nat} {u : Unit} (h : gsm r = some u) : r.isSome = true := by
  unfold gsm at h
  split at h
  · assumption
  · cases h
abbrev gOi (r : Int32 ⊕ String) : gOut := match r with
  | .inl x => .inl (some (vI x))
  | .inr C => .inr C
abbrev gOj (r : Int64 ⊕ String) : gOut := match r with
  | .inl x => .inl (some (vJ x))
  | .inr C => .inr C
abbrev gOr (r : Option Nat ⊕ String) : gOut := match r with
  | .inl x => .inl (some (vR x))
  | .inr C => .inr C
abbrev gOv (r : Unit ⊕ String) : gOut := match r with
  | .inl _ => .inl none
  | .inr C => .inr C
def gB3 {α β : Type} (o : Option ((α ⊕ String) × gS)) (f : α → gS → Option ((β ⊕ String) × gS)) : Option ((β ⊕ String) × gS) := match o with
  | some (.inl a, s) => f a s
  | some (.inr C, s) => some (.inr C, s)
  | none => none
theorem gB3_some {α β : Type} {o : Option ((α ⊕ String) × gS)} {f : α → gS → Option ((β ⊕ String) × gS)} {r : β ⊕ String} {s' : gS} (h : gB3 o f = some (r, s')) : (∃ a s, o = some (.inl a, s) ∧ f a s = some (r, s')) ∨ ∃ C, o = some (.inr C, s') ∧ r = .inr C := by
  match o, h with
  | some (.inl a, s), h => exact Or.inl ⟨a, s, rfl, h⟩
  | some (.inr C, s), h => cases h; exact Or.inr ⟨C, rfl, rfl⟩
theorem gB3_eq {α β : Type} {o : Option ((α ⊕ String) × gS)} {f : α → gS → Option ((β ⊕ String) × gS)} {a : α} {s : gS} (h : o = some (.inl a, s)) : gB3 o f = f a s := by rw [h]; rfl
theorem gB3_ex {α β : Type} {o : Option ((α ⊕ String) × gS)} {f : α → gS → Option ((β ⊕ String) × gS)} {C : String} {s : gS} (h : o = some (.inr C, s)) : gB3 o f = some (.inr C, s) := by rw [h]; rfl
def gBy {α β : Type} (o : Option ((α ⊕ String) × gS)) (g : String → gS → Option β) (f : α → gS → Option β) : Option β := match o with
  | some (.inl a, s) => f a s
  | some (.inr C, s) => g C s
  | none => none
theorem gBy_some {α β : Type} {o : Option ((α ⊕ String) × gS)} {f : α → gS → Option β} {g : String → gS → Option β} {z : β} (h : gBy o g f = some z) : (∃ a s, o = some (.inl a, s) ∧ f a s = some z) ∨ ∃ C s, o = some (.inr C, s) ∧ g C s = some z := by
  match o, h with
  | some (.inl a, s), h => exact Or.inl ⟨a, s, rfl, h⟩
  | some (.inr C, s), h => exact Or.inr ⟨C, s, rfl, h⟩
theorem gBy_eq {α β : Type} {o : Option ((α ⊕ String) × gS)} {f : α → gS → Option β} {g : String → gS → Option β} {a : α} {s : gS} (h : o = some (.inl a, s)) : gBy o g f = f a s := by rw [h]; rfl
theorem gBy_ex {α β : Type} {o : Option ((α ⊕ String) × gS)} {f : α → gS → Option β} {g : String → gS → Option β} {C : String} {s : gS} (h : o = some (.inr C, s)) : gBy o g f = g C s := by rw [h]; rfl
end GF
/-! natives: arraycopy, clone -/
section GN
variable {E : gE} {M : gM} {Q : gQ} {pc : Nat} {L : List (Nat × gV)} {st : List gV} {σ σ1 : gS}
theorem g_nn (z : Int32) (hz : ¬ z < 0) : z.toInt = (z.toNatClampNeg : Int) := by
  have hz0 : (0 : Int) ≤ z.toInt := by
    have := Int32.not_lt.mp hz
    simpa using Int32.le_iff_toInt_le.mp this
  show z.toInt = ((z.toInt.toNat : Nat) : Int)
  omega
theorem g_frm {H H' : Heap} {T : State} {vm' : Vm} {a : Nat} {cell : Cell} (hT : T.heap = H) : ((T.setVm vm').setCell a cell).heap = H.setIfInBounds a cell := by rw [← hT]; rfl
noncomputable def gcpI (κ : gK) (σ : gS) (t : Nat) (src : Option Nat) (sp : Int32) (dst : Option Nat) (dp n : Int32) : Option gS := match src, dst with
  | some a0, some a => match σ.1 a0, σ.1 a with
    | some (.inl (t0, n0, .inl f)), some (.inl (t1, n1, .inl g)) => @ite _ (t0 = t ∧ t1 = t ∧ κ.1 ≤ a0 ∧ κ.1 ≤ a ∧ ¬ sp < 0 ∧ ¬ dp < 0 ∧ ¬ n < 0 ∧ sp.toNatClampNeg + n.toNatClampNeg ≤ n0 ∧ dp.toNatClampNeg + n.toNatClampNeg ≤ n1 ∧ (∀ i, i < n.toNatClampNeg → fits (gTyL.getD t .int) (.int (f (sp.toNatClampNeg + i))) = true)) (Classical.propDecidable _) (some (gup σ a (.inl (t, n1, .inl (va_cpy f g sp.toNatClampNeg dp.toNatClampNeg n.toNatClampNeg))))) none
    | _, _ => none
  | _, _ => none
theorem gcpI_spec {κ : gK} {t : Nat} {src dst : Option Nat} {sp dp n : Int32} (h : gcpI κ σ t src sp dst dp n = some σ1) : ∃ a0 a n0 n1 f g, src = some a0 ∧ dst = some a ∧ σ.1 a0 = some (.inl (t, n0, .inl f)) ∧ σ.1 a = some (.inl (t, n1, .inl g)) ∧ κ.1 ≤ a0 ∧ κ.1 ≤ a ∧ ¬ sp < 0 ∧ ¬ dp < 0 ∧ ¬ n < 0 ∧ sp.toNatClampNeg + n.toNatClampNeg ≤ n0 ∧ dp.toNatClampNeg + n.toNatClampNeg ≤ n1 ∧ (∀ i, i < n.toNatClampNeg → fits (gTyL.getD t .int) (.int (f (sp.toNatClampNeg + i))) = true) ∧ σ1 = gup σ a (.inl (t, n1, .inl (va_cpy f g sp.toNatClampNeg dp.toNatClampNeg n.toNatClampNeg))) := by
  unfold gcpI at h
  split at h
  · rename_i a0 a
    split at h
    · rename_i t0 n0 f t1 n1 g h0 h1
      split at h
      · rename_i e
        obtain ⟨rfl, rfl, e⟩ := e
        cases h
        exact ⟨a0, a, n0, n1, f, g, rfl, rfl, h0, h1, e.1, e.2.1, e.2.2.1, e.2.2.2.1, e.2.2.2.2.1, e.2.2.2.2.2.1, e.2.2.2.2.2.2.1, e.2.2.2.2.2.2.2, rfl⟩
      · cases h
    · cases h
  · cases h
theorem gcpI_eq {κ : gK} {t a0 a n0 n1 : Nat} {f g : Nat → Int32} {sp dp n : Int32} (h0 : σ.1 a0 = some (.inl (t, n0, .inl f))) (h1 : σ.1 a = some (.inl (t, n1, .inl g))) (hb0 : κ.1 ≤ a0) (hb1 : κ.1 ≤ a) (hs : ¬ sp < 0) (hd : ¬ dp < 0) (hn : ¬ n < 0) (hl0 : sp.toNatClampNeg + n.toNatClampNeg ≤ n0) (hl1 : dp.toNatClampNeg + n.toNatClampNeg ≤ n1) (hf : ∀ i, i < n.toNatClampNeg → fits (gTyL.getD t .int) (.int (f (sp.toNatClampNeg + i))) = true) : gcpI κ σ t (some a0) sp (some a) dp n = some (gup σ a (.inl (t, n1, .inl (va_cpy f g sp.toNatClampNeg dp.toNatClampNeg n.toNatClampNeg)))) := by
  simp only [gcpI, h0, h1]
  rw [if_pos ⟨trivial, trivial, hb0, hb1, hs, hd, hn, hl0, hl1, hf⟩]
noncomputable def gcpR (κ : gK) (σ : gS) (src : Option Nat) (sp : Int32) (dst : Option Nat) (dp n : Int32) : Option gS := match src, dst with
  | some a0, some a => match σ.1 a0, σ.1 a with
    | some (.inl (t0, n0, .inr (.inr (.inr (.inr f))))), some (.inl (t1, n1, .inr (.inr (.inr (.inr g))))) => @ite _ ((2 < t0 ∧ t0 < 9) ∧ (2 < t1 ∧ t1 < 9) ∧ κ.1 ≤ a0 ∧ κ.1 ≤ a ∧ ¬ sp < 0 ∧ ¬ dp < 0 ∧ ¬ n < 0 ∧ sp.toNatClampNeg + n.toNatClampNeg ≤ n0 ∧ dp.toNatClampNeg + n.toNatClampNeg ≤ n1 ∧ (∀ i, i < n.toNatClampNeg → gokR κ σ t1 (f (sp.toNatClampNeg + i)))) (Classical.propDecidable _) (some (gup σ a (.inl (t1, n1, .inr (.inr (.inr (.inr (va_cpy f g sp.toNatClampNeg dp.toNatClampNeg n.toNatClampNeg)))))))) none
    | _, _ => none
  | _, _ => none
theorem gcpR_spec {κ : gK} {src dst : Option Nat} {sp dp n : Int32} (h : gcpR κ σ src sp dst dp n = some σ1) : ∃ a0 a t0 t1 n0 n1 f g, src = some a0 ∧ dst = some a ∧ σ.1 a0 = some (.inl (t0, n0, .inr (.inr (.inr (.inr f))))) ∧ σ.1 a = some (.inl (t1, n1, .inr (.inr (.inr (.inr g))))) ∧ (2 < t0 ∧ t0 < 9) ∧ (2 < t1 ∧ t1 < 9) ∧ κ.1 ≤ a0 ∧ κ.1 ≤ a ∧ ¬ sp < 0 ∧ ¬ dp < 0 ∧ ¬ n < 0 ∧ sp.toNatClampNeg + n.toNatClampNeg ≤ n0 ∧ dp.toNatClampNeg + n.toNatClampNeg ≤ n1 ∧ (∀ i, i < n.toNatClampNeg → gokR κ σ t1 (f (sp.toNatClampNeg + i))) ∧ σ1 = gup σ a (.inl (t1, n1, .inr (.inr (.inr (.inr (va_cpy f g sp.toNatClampNeg dp.toNatClampNeg n.toNatClampNeg)))))) := by
  unfold gcpR at h
  split at h
  · rename_i a0 a
    split at h
    · rename_i t0 n0 f t1 n1 g h0 h1
      split at h
      · rename_i e
        cases h
        exact ⟨a0, a, t0, t1, n0, n1, f, g, rfl, rfl, h0, h1, e.1, e.2.1, e.2.2.1, e.2.2.2.1, e.2.2.2.2.1, e.2.2.2.2.2.1, e.2.2.2.2.2.2.1, e.2.2.2.2.2.2.2.1, e.2.2.2.2.2.2.2.2.1, e.2.2.2.2.2.2.2.2.2, rfl⟩
      · cases h
    · cases h
  · cases h
theorem gcpR_eq {κ : gK} {t0 t1 a0 a n0 n1 : Nat} {f g : Nat → Option Nat} {sp dp n : Int32} (h0 : σ.1 a0 = some (.inl (t0, n0, .inr (.inr (.inr (.inr f)))))) (h1 : σ.1 a = some (.inl (t1, n1, .inr (.inr (.inr (.inr g)))))) (ht0 : 2 < t0 ∧ t0 < 9) (ht1 : 2 < t1 ∧ t1 < 9) (hb0 : κ.1 ≤ a0) (hb1 : κ.1 ≤ a) (hs : ¬ sp < 0) (hd : ¬ dp < 0) (hn : ¬ n < 0) (hl0 : sp.toNatClampNeg + n.toNatClampNeg ≤ n0) (hl1 : dp.toNatClampNeg + n.toNatClampNeg ≤ n1) (hf : ∀ i, i < n.toNatClampNeg → gokR κ σ t1 (f (sp.toNatClampNeg + i))) : gcpR κ σ (some a0) sp (some a) dp n = some (gup σ a (.inl (t1, n1, .inr (.inr (.inr (.inr (va_cpy f g sp.toNatClampNeg dp.toNatClampNeg n.toNatClampNeg))))))) := by
  simp only [gcpR, h0, h1]
  rw [if_pos ⟨ht0, ht1, hb0, hb1, hs, hd, hn, hl0, hl1, hf⟩]
theorem g_nfw : nativeFrameWords "java/lang/System" "arraycopy" 5 + 11 ≤ 92 := by decide
theorem g_copyEnd (hE : gEnv E) {p : Program} {e : Env} {s : State} {m : MethodId} {args : Array Value} {below : List Frame} {meth : Method} {c : Code} {R : Room} (hc : gCtx E M p s m args meth c R) {H : Heap} {locs : List Loc} {k9 n9 : Nat} {ls : Array Slot} {a t : Nat} {x : vp_A} {zs : List Nat} (hr : gRel E σ H) (e1 : σ.2.1 = gm_z0 M + k9) (e2 : σ.2.2 = gm_n0 M + n9) (hf : ∀ z ∈ locs, (ge_s E).heap.size ≤ z.base) (hl : lv_has ls (gm_nL M) (gL L)) (hba : (ge_s E).heap.size ≤ a) (hal : a < H.size) (kk : gW E M Q (pc + 3) L st (gup σ a (.inl (t, x)))) {L9 : List Loc} (hL9 : ∀ z ∈ L9, z.base = a) : W p (ge_l E) e R s m args below meth c (H.setIfInBounds a (vp_cell (ge_A E t) x)) (locs ++ L9) k9 n9 (Q below args s) (F0 m (pc + 3) ls (st.map gv)) := by
  refine kk.2.2 hE p e s m args below meth c R hc _ _ k9 n9 ls (hr.up (by simp) (fun q hq => by simp [Array.getElem?_setIfInBounds, Ne.symm hq]) hba (g_at.exact (by simp [Array.getElem?_setIfInBounds, hal]))) e1 e2 (fun z hz => ?_) hl
  rcases List.mem_append.mp hz with hz | hz
  · exact hf z hz
  · rw [hL9 z hz]; exact hba
theorem gw_copyI {t idx : Nat} {ty : FieldType} {src dst : Option Nat} {sp dp n : Int32} (hty : gTyL[t]? = some ty) (hpr : refKind ty = false) (h1 : Cond.methodLink (gm_own M) idx arraycopyName ∈ lw_all) (h2 : Cond.native arraycopyName ∈ lw_all) (h3 : Cond.static arraycopyName ∈ lw_all) (h4 : Cond.initialized "java/lang/System" ∈ lw_all) (hdp : 1 ≤ gm_d M) (hrest : gSum st ≤ 8) (h : gcpI (gk E) σ t src sp dst dp n = some σ1) (hd : decode (gm_cc M) pc = .ok (.invokestatic idx, 3)) (kk : gW E M Q (pc + 3) L st σ1) : gW E M Q pc L (vI n :: vI dp :: vR dst :: vI sp :: vR src :: st) σ := by
  obtain ⟨a0, a, n0, n1, f, g, rfl, rfl, ha0, ha1, hb0, hb1, hs0, hd0, hn0, hl0, hl1, hfit, rfl⟩ := gcpI_spec h
  refine ⟨kk.1, kk.2.1, fun hE p e s m args below meth c R hc H locs k9 n9 ls hr e1 e2 hf hl => ?_⟩
  have hts := hc.2.2.2.2.1
  have hK := gK_at hE hc
  rw [hE.2.2.2.1] at hb0 hb1
  obtain ⟨cell0, u1, -, -, -, -, -, u7⟩ := hr.2.2.2 a0 _ ha0
  obtain ⟨cell1, w1, -, -, -, -, -, w7⟩ := hr.2.2.2 a _ ha1
  have u7 := u7 hb0
  have w7 := w7 hb1
  subst u7; subst w7
  have hlo := gCtx_locals hc
  have hfr := gCtx_frames hc
  have hg9 : gTyL.getD t .int = ty := by rw [List.getD_eq_getElem?_getD, hty]; rfl
  rw [hg9] at hfit
  intro T hT X
  obtain ⟨-, k0, hk0, cm0, hkk0⟩ := (hK.2 t _ (gTy_at hty)).1 n0 (fun j => .int (f j))
  obtain ⟨vm', X', step⟩ := X.arraycopy hc.1 hc.2.2.2.1 (hts _ h1) (hts _ h2) (hts _ h3) (hts _ h4) (src := a0) (dst := a) (cs := vp_cell (ge_A E t) (n0, .inl f)) (cd := vp_cell (ge_A E t) (n1, .inl g)) (srcPos := sp) (destPos := dp) (n := n) (by rw [hT]; exact u1) (by rw [hT]; exact w1)
    (fun _ h => by cases h) (fun _ h => by cases h) (fun h => by cases h) (fun h => by cases h) hk0 hk0 hkk0 hkk0 (by simp [hpr]) hs0 hd0 hn0
    (by rw [g_nn sp hs0, g_nn n hn0]; show ¬ _ > ((arrV _ n0 (fun j => .int (f j))).slots.size : Int); rw [arrV_size]; omega)
    (by rw [g_nn dp hd0, g_nn n hn0]; show ¬ _ > ((arrV _ n1 (fun j => .int (g j))).slots.size : Int); rw [arrV_size]; omega)
    (fun vm₁ _ i hi => by
      have e : (vp_cell (ge_A E t) (n0, .inl f)).slots.getD (sp.toNatClampNeg + i) .null = .int (f (sp.toNatClampNeg + i)) := by
        show (arrV _ n0 (fun j => .int (f j))).slots.getD _ _ = _
        rw [Array.getD_eq_getD_getElem?, arrV_read _ _ (by omega)]
        rfl
      refine ⟨?_, ?_⟩
      · rw [e]
        exact hfit i hi
      · rw [e]
        exact trivial)
    (g := F0 m pc ls (.int n :: .int dp :: .ref a :: .int sp :: .ref a0 :: st.map gv)) rfl (by rw [hc.2.2.1]; exact hl.1) (rest := st.map gv) rfl (by rw [hc.2.1]; exact hd) (by omega) (by have := g_nfw; show 2 * 0 + _ + _ ≤ _; rw [gSum_eq]; omega)
  have e9 : copied (vp_cell (ge_A E t) (n0, .inl f)) (vp_cell (ge_A E t) (n1, .inl g)) sp dp n = vp_cell (ge_A E t) (n1, .inl (va_cpy f g sp.toNatClampNeg dp.toNatClampNeg n.toNatClampNeg)) := by
    rw [vp_cell_i, vp_cell_i, vp_cell_i]
    exact va_copied (fun z => .int z) _ _ f g hl0
  rw [e9] at X' step
  obtain ⟨t2, a2, b2⟩ := g_copyEnd (zs := []) hE hc hr e1 e2 hf hl hb1 (Array.getElem?_eq_some_iff.mp w1).1 kk (fun z hz => by obtain ⟨w, -, hw⟩ := List.mem_map.mp hz; rw [← hw]) _ (g_frm (H' := H) hT) X'
  exact ⟨t2, step t2 a2, b2⟩
theorem gw_copyR {idx : Nat} {src dst : Option Nat} {sp dp n : Int32} (h1 : Cond.methodLink (gm_own M) idx arraycopyName ∈ lw_all) (h2 : Cond.native arraycopyName ∈ lw_all) (h3 : Cond.static arraycopyName ∈ lw_all) (h4 : Cond.initialized "java/lang/System" ∈ lw_all) (hdp : 1 ≤ gm_d M) (hrest : gSum st ≤ 8) (h : gcpR (gk E) σ src sp dst dp n = some σ1) (hd : decode (gm_cc M) pc = .ok (.invokestatic idx, 3)) (kk : gW E M Q (pc + 3) L st σ1) : gW E M Q pc L (vI n :: vI dp :: vR dst :: vI sp :: vR src :: st) σ := by
  obtain ⟨a0, a, t0, t1, n0, n1, f, g, rfl, rfl, ha0, ha1, ht0, ht1, hb0, hb1, hs0, hd0, hn0, hl0, hl1, hfit, rfl⟩ := gcpR_spec h
  have hob : ∀ t, 2 < t ∧ t < 9 → ∃ C9, gTyL[t]? = some (.object C9) := by
    intro t ht
    match t, ht with
    | 3, _ => exact ⟨_, rfl⟩
    | 4, _ => exact ⟨_, rfl⟩
    | 5, _ => exact ⟨_, rfl⟩
    | 6, _ => exact ⟨_, rfl⟩
    | 7, _ => exact ⟨_, rfl⟩
    | 8, _ => exact ⟨_, rfl⟩
  obtain ⟨C0, hC0⟩ := hob t0 ht0
  obtain ⟨C1, hC1⟩ := hob t1 ht1
  refine ⟨kk.1, kk.2.1, fun hE p e s m args below meth c R hc H locs k9 n9 ls hr e1 e2 hf hl => ?_⟩
  have hts := hc.2.2.2.2.1
  have hK := gK_at hE hc
  rw [hE.2.2.2.1] at hb0 hb1
  obtain ⟨cell0, u1, -, -, -, -, -, u7⟩ := hr.2.2.2 a0 _ ha0
  obtain ⟨cell1, w1, -, -, -, -, -, w7⟩ := hr.2.2.2 a _ ha1
  have u7 := u7 hb0
  have w7 := w7 hb1
  subst u7; subst w7
  have hlo := gCtx_locals hc
  have hfr := gCtx_frames hc
  intro T hT X
  obtain ⟨-, k0, hk0, cm0, hkk0⟩ := (hK.2 t0 _ (gTy_at hC0)).1 n0 (fun j => va_rf (f j))
  obtain ⟨-, k1, hk1, cm1, hkk1⟩ := (hK.2 t1 _ (gTy_at hC1)).1 n1 (fun j => va_rf (g j))
  obtain ⟨vm', X', step⟩ := X.arraycopy hc.1 hc.2.2.2.1 (hts _ h1) (hts _ h2) (hts _ h3) (hts _ h4) (src := a0) (dst := a) (cs := vp_cell (ge_A E t0) (n0, .inr (.inr (.inr (.inr f))))) (cd := vp_cell (ge_A E t1) (n1, .inr (.inr (.inr (.inr g))))) (srcPos := sp) (destPos := dp) (n := n) (by rw [hT]; exact u1) (by rw [hT]; exact w1)
    (fun _ h => by cases h) (fun _ h => by cases h) (fun h => by cases h) (fun h => by cases h) hk0 hk1 hkk0 hkk1 rfl hs0 hd0 hn0
    (by rw [g_nn sp hs0, g_nn n hn0]; show ¬ _ > ((arrV _ n0 (fun j => va_rf (f j))).slots.size : Int); rw [arrV_size]; omega)
    (by rw [g_nn dp hd0, g_nn n hn0]; show ¬ _ > ((arrV _ n1 (fun j => va_rf (g j))).slots.size : Int); rw [arrV_size]; omega)
    (fun vm₁ hal i hi => by
      have e : (vp_cell (ge_A E t0) (n0, .inr (.inr (.inr (.inr f))))).slots.getD (sp.toNatClampNeg + i) .null = va_rf (f (sp.toNatClampNeg + i)) := by
        show (arrV _ n0 (fun j => va_rf (f j))).slots.getD _ _ = _
        rw [Array.getD_eq_getD_getElem?, arrV_read _ _ (by omega)]
        rfl
      rw [e]
      have hfi := hfit i hi
      cases hy : f (sp.toNatClampNeg + i) with
      | none => exact ⟨rfl, trivial⟩
      | some y =>
        rw [hy] at hfi
        obtain ⟨E9, hE9, cellV, g1, g2, ⟨kC, hkC⟩, comp9, hfc9, hasg⟩ := g_stEl hE (gCtx_warm hc) hK hr hfi
        obtain ⟨kA, comp, r1, r2, r3, -⟩ := (hK.2 t1 _ (gTy_at hE9)).2
        cases hk1.symm.trans r1
        cases hkk1.symm.trans r2
        cases hfc9.symm.trans r3
        obtain ⟨kE, hkE, -⟩ := Vm.findClass_spec r3
        obtain ⟨kC', hkC', -⟩ := hal.2.2 _ _ hkC
        obtain ⟨kE', hkE', -⟩ := hal.2.2 _ _ hkE
        refine ⟨rfl, cellV, (show T.heap[y]? = some cellV by rw [hT]; exact g1), (fun q h => by rw [h] at g2; cases g2), ⟨kC', hkC'⟩, ?_, ?_⟩
        · exact ⟨kE', hkE'⟩
        · show vm₁.assignable _ _ = true
          rw [hal.assignable]
          exact hasg)
    (g := F0 m pc ls (.int n :: .int dp :: .ref a :: .int sp :: .ref a0 :: st.map gv)) rfl (by rw [hc.2.2.1]; exact hl.1) (rest := st.map gv) rfl (by rw [hc.2.1]; exact hd) (by omega) (by have := g_nfw; show 2 * 0 + _ + _ ≤ _; rw [gSum_eq]; omega)
  have e9 : copied (vp_cell (ge_A E t0) (n0, .inr (.inr (.inr (.inr f))))) (vp_cell (ge_A E t1) (n1, .inr (.inr (.inr (.inr g))))) sp dp n = vp_cell (ge_A E t1) (n1, .inr (.inr (.inr (.inr (va_cpy f g sp.toNatClampNeg dp.toNatClampNeg n.toNatClampNeg))))) := by
    rw [vp_cell_q, vp_cell_q, vp_cell_q]
    exact va_copied (fun z => va_rf z) _ _ f g hl0
  rw [e9] at X' step
  obtain ⟨t2, a2, b2⟩ := g_copyEnd (zs := []) hE hc hr e1 e2 hf hl hb1 (Array.getElem?_eq_some_iff.mp w1).1 kk (fun z hz => by obtain ⟨w, -, hw⟩ := List.mem_map.mp hz; rw [← hw]) _ (g_frm (H' := H) hT) X'
  exact ⟨t2, step t2 a2, b2⟩
/-- the clone of an int or byte array -/
noncomputable def gcln (κ : gK) (σ : gS) (t : Nat) (r : Option Nat) : Option (Option Nat × gS) := match r with
  | some a => match σ.1 a with
    | some (.inl (t0, n0, .inl f)) => @ite _ (t0 = t ∧ κ.1 ≤ a ∧ (∀ i, i < n0 → fits (gTyL.getD t .int) (.int (f i)) = true)) (Classical.propDecidable _) (some (some σ.2.1, gpush σ (.inl (t, n0, .inl f)) n0)) none
    | _ => none
  | _ => none
theorem gcln_spec {κ : gK} {t : Nat} {r v : Option Nat} (h : gcln κ σ t r = some (v, σ1)) : ∃ a n0 f, r = some a ∧ σ.1 a = some (.inl (t, n0, .inl f)) ∧ κ.1 ≤ a ∧ (∀ i, i < n0 → fits (gTyL.getD t .int) (.int (f i)) = true) ∧ v = some σ.2.1 ∧ σ1 = gpush σ (.inl (t, n0, .inl f)) n0 := by
  unfold gcln at h
  split at h
  · rename_i a
    split at h
    · rename_i t0 n0 f h0
      split at h
      · rename_i e
        obtain ⟨rfl, e1, e2⟩ := e
        cases h
        exact ⟨a, n0, f, rfl, h0, e1, e2, rfl, rfl⟩
      · cases h
    · cases h
  · cases h
theorem gcln_eq {κ : gK} {t a n0 : Nat} {f : Nat → Int32} (h0 : σ.1 a = some (.inl (t, n0, .inl f))) (hb0 : κ.1 ≤ a) (hf : ∀ i, i < n0 → fits (gTyL.getD t .int) (.int (f i)) = true) : gcln κ σ t (some a) = some (some σ.2.1, gpush σ (.inl (t, n0, .inl f)) n0) := by
  simp only [gcln, h0]
  rw [if_pos ⟨trivial, hb0, hf⟩]
theorem gw_clone {t idx : Nat} {ty : FieldType} {ad : String} {r v : Option Nat} (hty : gTyL[t]? = some ty) (hpr : refKind ty = false) (had : ad = "[" ++ ty.toString) (h1 : Cond.methodLink (gm_own M) idx ⟨ad, "clone", "()Ljava/lang/Object;"⟩ ∈ lw_all) (h2 : Cond.sameMethod ad "java/lang/Object" "clone" "()Ljava/lang/Object;" ∈ lw_all) (h3 : Cond.native ⟨"java/lang/Object", "clone", "()Ljava/lang/Object;"⟩ ∈ lw_all) (h4 : Cond.instanceMethod ⟨"java/lang/Object", "clone", "()Ljava/lang/Object;"⟩ ∈ lw_all) (h5 : Cond.selects ad ⟨ad, "clone", "()Ljava/lang/Object;"⟩ ⟨"java/lang/Object", "clone", "()Ljava/lang/Object;"⟩ ∈ lw_all) (h6 : Cond.castable ad "java/lang/Cloneable" ∈ lw_tbl) (hdp : 1 ≤ gm_d M) (hrest : gSum st ≤ 8) (h : gcln (gk E) σ t r = some (v, σ1)) (hd : decode (gm_cc M) pc = .ok (.invokevirtual idx, 3)) (kk : gW E M Q (pc + 3) L (vR v :: st) σ1) : gW E M Q pc L (vR r :: st) σ := by
  obtain ⟨a, n0, f, rfl, ha, hba, hfit, rfl, rfl⟩ := gcln_spec h
  have hk1 : σ.2.1 + 1 ≤ gm_zf M := kk.1
  have hk2 : σ.2.2 + n0 ≤ gm_nf M := kk.2.1
  refine ⟨by omega, by omega, fun hE p e s m args below meth c R hc H locs k9 n9 ls hr e1 e2 hf hl => ?_⟩
  have hts := hc.2.2.2.2.1
  have hK := gK_at hE hc
  rw [hE.2.2.2.1] at hba
  obtain ⟨cell0, u1, -, -, -, -, -, u7⟩ := hr.2.2.2 a _ ha
  have u7 := u7 hba
  subst u7
  have hlo := gCtx_locals hc
  have hfr := gCtx_frames hc
  have hz := gCtx_cells hc
  have hn := gCtx_slots hc
  have hg9 : gTyL.getD t .int = ty := by rw [List.getD_eq_getElem?_getD, hty]; rfl
  rw [hg9] at hfit
  have hRA := (hK.2 t _ (gTy_at hty)).2
  have hfc : s.vm.findClass ad = some (ge_A E t) := by
    rw [had]
    cases ty with
    | object C9 => cases hpr
    | _ => exact hRA
  obtain ⟨c0, t0', f1, f2, f3⟩ := Cond.castable_spec (va_Nw.use (A := args) rfl (va_Nw.warmC (gCtx_warm hc) (va_Nw.of rfl (hE.1 _ h6))))
  cases hfc.symm.trans f1
  intro T hT X
  have hsz : (vp_cell (ge_A E t) (n0, .inl f)).slots.size = n0 := arrV_size _ _ _
  obtain ⟨-, kA, hkA, comp, hkind⟩ := State.isArrayOf_alike X.warmed.alike ((hK.2 t _ (gTy_at hty)).1 0 (fun _ => .null))
  obtain ⟨-, kS, hkS, compS, hkindS⟩ := (hK.2 t _ (gTy_at hty)).1 0 (fun _ => .null)
  obtain ⟨vm', X', stp⟩ := X.cloneArray hc.1 hc.2.2.2.1 (hts _ h1) (hts _ h2) (hts _ h3) (hts _ h4) (hts _ h5) (a := a) (cell := vp_cell (ge_A E t) (n0, .inl f)) (by rw [hT]; exact u1) (fun k h => by cases h) (fun h => by cases h) hfc f2 f3
    (fun i v hv => by
      have hk' : T.vm.classes[ge_A E t]? = some kA := hkA
      have hi : i < n0 := by rw [← hsz]; exact (Array.getElem?_eq_some_iff.mp hv).1
      have hv2 : (arrV (ge_A E t) n0 (fun j => .int (f j))).slots[i]? = some v := hv
      rw [arrV_read _ _ hi] at hv2
      cases hv2
      show T.fitsSlot (ge_A E t) .none i _ = true
      simpa [State.fitsSlot, State.slotType?, hk', hkind] using hfit i hi)
    (g := F0 m pc ls (.ref a :: st.map gv)) rfl (by rw [hc.2.2.1]; exact hl.1) rfl (by rw [hc.2.1]; exact hd) (by omega) (by show 2 * 0 + _ + 14 ≤ _; rw [gSum_eq]; omega) (by omega) (by rw [hsz]; omega) (hloader := Vm.clonesLoader_of_array hkS hkindS)
  have hcellE : ({ cls := (vp_cell (ge_A E t) (n0, .inl f)).cls, slots := (vp_cell (ge_A E t) (n0, .inl f)).slots } : Cell) = vp_cell (ge_A E t) (n0, .inl f) := rfl
  rw [hcellE, hsz] at X'
  obtain ⟨t2, b1, b2⟩ := kk.2.2 hE p e s m args below meth c R hc (H.push (vp_cell (ge_A E t) (n0, .inl f))) locs (k9 + 1) (n9 + n0) ls (hr.push (by simp) (fun q hq => by rw [Array.getElem?_push, if_neg (Nat.ne_of_lt hq)]) (g_at.exact (by simp))) (by show σ.2.1 + 1 = _; omega) (by show σ.2.2 + _ = _; omega) hf hl ((T.setVm vm').pushCell (vp_cell (ge_A E t) (n0, .inl f))) (by rw [← hT]; rfl) X'
  refine ⟨t2, stp t2 ?_, b2⟩
  rw [hcellE, hT, hr.1]
  exact b1
/-- a cast to one of several classes -/
def gcm (σ : gS) (r : Option Nat) (cs : List Nat) : Option Unit := match r with
  | none => some ()
  | some a => match σ.1 a with
    | some (.inr o) => if o.1 ∈ cs then some () else none
    | _ => none
theorem gcm_eq {a ci : Nat} {fs : List Value} {cs : List Nat} (h : σ.1 a = some (.inr (ci, fs))) (hc : ci ∈ cs) : gcm σ (some a) cs = some () := by
  simp only [gcm, h]
  rw [if_pos hc]
theorem gw_castM {nm : String} {idx : Nat} {r : Option Nat} {cs : List Nat} {u : Unit} (hcs : ∀ ci ∈ cs, gIsA ci nm) (h : gcm σ r cs = some u) (hq : Cond.classLink (gm_own M) idx nm ∈ lw_all) (hd : decode (gm_cc M) pc = .ok (.checkcast idx, 3)) (kk : gW E M Q (pc + 3) L (vR r :: st) σ) : gW E M Q pc L (vR r :: st) σ := by
  cases r with
  | none => exact gw_lift (fun hx hb w => lv_castN hx hb hd w) kk
  | some a =>
    simp only [gcm] at h
    split at h
    · rename_i o ha
      split at h
      · rename_i hm
        obtain ⟨⟨C, T, N⟩, hcl, hcast⟩ := hcs _ hm
        exact gw_cast hcl (gcc_eq ha) hq hcast hd kk
      · cases h
    · cases h
end GN
section GX
theorem gx_npeAt {p : Program} {l : Launch} {e : Env} {R : Room} {s : State} {m₀ : MethodId} {args : Array Value} {below : List Frame} {meth : Method} {c : Code} {W : State} {locs : List Loc} {cells slots : Nat}
    (X : Stand p l e R s m₀ args below meth c W locs cells slots) (hexec : p.tables.exec = Jvm.exec) (htr : e.platform.stackTraces = false) {n : Nat}
    (h : ∀ a ∈ Bundle.npeArmAtoms n, a.before args s = true)
    (hlocs : ∀ x ∈ locs, ∀ cell, s.heap[x.base]? = some cell → cell.vm.isStatics = false)
    {g : JFrame} (hg : g.method = m₀) (hsize : g.locals.size = c.maxLocals)
    (hRframes : 7 < R.frames) (hRlocals : 2 * g.monitorRoom + (g.stack.map fun v => v.category).sum + 10240 ≤ R.locals)
    (hRcells : cells + 1 ≤ R.cells) (hRslots : slots + n ≤ R.slots) (hlocks : meth.locks = false) :
    ∃ (S : State) (q : Addr) (ce : Cell), (∀ target, Steps p.tables e below ((S.setTop g).pushFrame (.throwing q)) target → Steps p.tables e below ((W.setTop g).pushFrame (.throwNew "java/lang/NullPointerException" none none)) target) ∧
      Stand p l e R s m₀ args below meth c S locs (cells + 1) (slots + n) ∧ S.heap[q]? = some ce ∧ s.vm.findClass "java/lang/NullPointerException" = some ce.cls ∧ ce.vm = .none ∧ S.heap.size = W.heap.size + 1 := by
  have howns : e.platform.frameOwnsMonitors = true := by rw [X.admits.platform]
  have hfin : e.platform.finalization = false := by rw [X.admits.platform]
  have hpl : e.platform.magicAccessors = ({} : Platform).magicAccessors := by rw [X.admits.platform]
  have hpl2 : e.platform.arrayCloneIsPublic = true := by rw [X.admits.platform]
  have a' : ∀ x, x ∈ Bundle.npeArmAtoms n → x.holds args s none s [] = true := fun x hx => h x hx
  obtain ⟨T, Z, L, LZ, Y⟩ := ThrowableC.of_atoms (args := args) howns hfin hpl (fun x hx => h x (by simp [Bundle.npeArmAtoms, hx]))
  obtain ⟨N, LN, hcN, hnNF, hordN, hffS⟩ := NpeC.of_atoms (args := args) hpl hpl2 L Y (fun x hx => h x (by simp [Bundle.npeArmAtoms, hx]))
  obtain ⟨P1, L1, hP1m, hP1s⟩ := PassC.of_atoms (args := args) (s := s) hpl (X := Bundle.nN) (Y := Bundle.rN) (by decide) (by decide) LibCode.NullPointerException.Init0.at_0 LibCode.NullPointerException.Init0.at_1 LibCode.NullPointerException.Init0.at_4 (fun x hx => h x (by simp [Bundle.npeArmAtoms, hx]))
  obtain ⟨PR, LR, hPRm, hPRs⟩ := PassC.of_atoms (args := args) (s := s) hpl (X := Bundle.rN) (Y := Bundle.eN) (by decide) (by decide) LibCode.RuntimeException.Init0.at_0 LibCode.RuntimeException.Init0.at_1 LibCode.RuntimeException.Init0.at_4 (fun x hx => h x (by simp [Bundle.npeArmAtoms, hx]))
  obtain ⟨PE, LEx, hPEm, hPEs⟩ := PassC.of_atoms (args := args) (s := s) hpl (X := Bundle.eN) (Y := Bundle.tN) (by decide) (by decide) LibCode.Exception.Init0.at_0 LibCode.Exception.Init0.at_1 LibCode.Exception.Init0.at_4 (fun x hx => h x (by simp [Bundle.npeArmAtoms, hx]))
  have hfound : s.vm.findClass Bundle.nN = some P1.m.cls := findClass_of_methodNamed hP1m
  have ecls : N.cN = P1.m.cls := Option.some.inj (hcN.symm.trans hfound)
  have hk : s.vm.classes[P1.m.cls]? = some N.kN := by rw [← ecls]; exact LN.cls
  have hinit := Cond.initialized_spec hfound hk (a' (.initialized Bundle.nN) (by simp [Bundle.npeArmAtoms]))
  have hctor : N.kN.findMethod "<init>" "()V" = some P1.m.idx := findMethod_of_methodNamed hP1m hk
  obtain ⟨c1, k1, hc1, hk1, -, -, -, hn⟩ := Cond.instantiable_spec (a' (.instantiable Bundle.nN n) (by simp [Bundle.npeArmAtoms]))
  cases Option.some.inj (hc1.symm.trans hfound)
  cases Option.some.inj (hk1.symm.trans hk)
  have hfsz : (freshCell P1.m.cls N.kN).slots.size = n := by simp [hn]
  have hlink1 : P1.sup = PR.m := Option.some.inj (hP1s.symm.trans hPRm)
  have hlinkR : PR.sup = PE.m := Option.some.inj (hPRs.symm.trans hPEm)
  have hlinkE : PE.sup = Z.m T.toThrowableT := Option.some.inj (hPEs.symm.trans Y.init0)
  have hLs : ∀ P, P ∈ [PR, PE] → P.Links0 e.platform s := fun P hP => by
    simp only [List.mem_cons, List.not_mem_nil, or_false] at hP
    rcases hP with rfl | rfl
    · exact LR
    · exact LEx
  have hsel0 : selectMethod e.platform s.vm P1.m.cls T.fill0 = .method T.fill0 := by
    obtain ⟨c2, r2, m2, q1, q2, q3, q4, -⟩ := Cond.selects_spec (a' (.selects Bundle.nN Bundle.tFill0 Bundle.tFill0) (by simp [Bundle.npeArmAtoms]))
    cases Option.some.inj (q1.symm.trans hfound)
    cases Option.some.inj (q2.symm.trans (State.methodFound?_of_named Y.fill0 (by decide)))
    cases Option.some.inj (q3.symm.trans Y.fill0)
    rw [Launch.admits_selectMethod X.admits]; exact q4
  have hselF : selectMethod e.platform s.vm P1.m.cls T.fill = .method N.fill := by
    obtain ⟨c2, r2, m2, q1, q2, q3, q4, -⟩ := Cond.selects_spec (a' (.selects Bundle.nN Bundle.tFill Bundle.nFill) (by simp [Bundle.npeArmAtoms]))
    cases Option.some.inj (q1.symm.trans hfound)
    cases Option.some.inj (q2.symm.trans (State.methodFound?_of_named Y.fill (by decide)))
    cases Option.some.inj (q3.symm.trans hnNF)
    rw [Launch.admits_selectMethod X.admits]; exact q4
  obtain ⟨cellS0, hcS0, hiss⟩ := Y.statics
  obtain ⟨u0, hu0⟩ := Cond.staticRefV Y.unassigned L.unassignedStatic L.statics hcS0 hiss (a' (.isRef (.static Bundle.tN "UNASSIGNED_STACK" Bundle.steD)) (by simp [Bundle.npeArmAtoms]))
  obtain ⟨sen, hsen⟩ := Cond.staticRefV Y.sentinel L.sentinelStatic L.statics hcS0 hiss (a' (.isRef (.static Bundle.tN "SUPPRESSED_SENTINEL" Bundle.listD)) (by simp [Bundle.npeArmAtoms]))
  obtain ⟨ci198, i198, fB, hk198, hg198, ha198, hsB, -, hnB, htB, hffB⟩ := Cond.ownField (t := .object "java/lang/Object") Y.found L.cls (by decide +kernel) (a' (.fieldLink Bundle.tN 198 Bundle.tN "backtrace" Bundle.objD) (by simp [Bundle.npeArmAtoms])) (a' (.lays Bundle.tN Bundle.tN "backtrace" Bundle.objD) (by simp [Bundle.npeArmAtoms])) e.platform hpl
  obtain ⟨cellS, hcS', heS, -, hkeep⟩ := X.same.2.2.2.2.2 T.aS cellS0 hcS0
  have hcellS : W.heap[T.aS]? = some cellS := hcS'
  have hout' : ∀ i, (⟨T.aS, i⟩ : Loc) ∉ locs := fun i hmem => by
    have := hlocs _ hmem cellS0 hcS0
    rw [hiss] at this; cases this
  have hknownS : cellS.vm ≠ .unknown := by
    rw [heS]; intro hu
    rw [show cellS0.vm = .unknown from hu] at hiss
    cases hiss
  have hvU : cellS.slots[T.fUnassigned.slot]? = some u0.v := by rw [hkeep _ (hout' _)]; exact hu0
  have hvSen : cellS.slots[T.fSentinel.slot]? = some sen.v := by rw [hkeep _ (hout' _)]; exact hsen
  obtain ⟨tyC, dC, hdC, hdnC⟩ := Cond.laysAt hfound hk Y.cause (a' (.lays Bundle.nN Bundle.tN "cause" "Ljava/lang/Throwable;") (by simp [Bundle.npeArmAtoms]))
  obtain ⟨tyS, dS, hdS, hdnS⟩ := Cond.laysAt hfound hk Y.stack (a' (.lays Bundle.nN Bundle.tN "stackTrace" Bundle.steD) (by simp [Bundle.npeArmAtoms]))
  obtain ⟨tyP, dP, hdP, hdnP⟩ := Cond.laysAt hfound hk Y.supp (a' (.lays Bundle.nN Bundle.tN "suppressedExceptions" Bundle.listD) (by simp [Bundle.npeArmAtoms]))
  obtain ⟨tyX, dX, hdX, hdnX⟩ := Cond.laysAt hfound hk hffS (a' (.lays Bundle.nN Bundle.nN "extendedMessageState" "I") (by simp [Bundle.npeArmAtoms, Bundle.npeAtoms]))
  obtain ⟨hnX, htX⟩ := State.fieldFound?_type hffS (t := .int) (by decide +kernel)
  have xC := Cond.laysApart hdC hdX hdnC hdnX (by rw [hnX, Y.causeName]; decide)
  have xS := Cond.laysApart hdS hdX hdnS hdnX (by rw [hnX, Y.stackName]; decide)
  have xP := Cond.laysApart hdP hdX hdnP hdnX (by rw [hnX, Y.suppName]; decide)
  have hv0 : (freshCell P1.m.cls N.kN).slots[N.fState.slot]? = some (.int 0) := by
    have := fresh_default (c := P1.m.cls) tyX
    rw [htX] at this; exact this
  obtain ⟨tyB, dB, hdB, hdnB⟩ := Cond.laysAt hfound hk hffB (a' (.lays Bundle.nN Bundle.tN "backtrace" Bundle.objD) (by simp [Bundle.npeArmAtoms]))
  have bC := Cond.laysApart hdB hdC hdnB hdnC (by rw [hnB, Y.causeName]; decide)
  have bS := Cond.laysApart hdB hdS hdnB hdnS (by rw [hnB, Y.stackName]; decide)
  have bP := Cond.laysApart hdB hdP hdnB hdnP (by rw [hnB, Y.suppName]; decide)
  have bX := Cond.laysApart hdB hdX hdnB hdnX (by rw [hnB, hnX]; decide)
  have hbk : ((npeCell N.toNpeT (preparedCellV T.toThrowableT (freshCell P1.m.cls N.kN) W.heap.size u0 sen) W.cur).withEntry W.cur).slots[fB.slot]? = some .null := by
    have := fresh_default (c := P1.m.cls) tyB
    rw [htB] at this
    simpa [npeCell, preparedCellV, Cell.setSlot, Cell.withEntry, Array.getElem?_setIfInBounds, bC, bS, bP, bX, bC.symm, bS.symm, bP.symm, bX.symm, defaultValue] using this
  have tkC := Takes.of_laid (v := .ref W.heap.size) hk hordN tyC (by rw [Y.causeType]; rfl)
  have tkS := Takes.of_laid (v := u0.v) hk hordN tyS (by rw [Y.stackType]; exact fits_refV_array _ u0)
  have tkP := Takes.of_laid (v := sen.v) hk hordN tyP (by rw [Y.suppType]; exact fits_refV_object _ sen)
  have tkX := Takes.of_laid (v := .int 1) hk hordN tyX (by rw [htX]; rfl)
  have hskip : SkipFacts T e.platform s (fun u => u) u0 ((npeCell N.toNpeT (preparedCellV T.toThrowableT (freshCell P1.m.cls N.kN) W.heap.size u0 sen) W.cur).withEntry W.cur) := ⟨{ ci198 := ci198, i198 := i198, fBack := fB }, ⟨hk198, hg198, ha198, hsB⟩, hbk, fun _ _ => rfl⟩
  obtain ⟨vm', X3, st, -⟩ := X.throwsNpeColdBareVAt hexec hg hsize T L Z LZ N LN P1 L1 [PR, PE] hLs hlink1 ⟨hlinkR, hlinkE, trivial⟩ hfound hk hinit hordN hctor hsel0 hselF hcellS hknownS hvU hvSen
    hv0 xC xS xP tkC tkS tkP tkX Y.objLocals hskip (fun _ _ hA hW _ hroom _ hrest => L.nativeOff p htr hA hW hroom hrest) (by simpa using hRframes) hRlocals (by simp) hRcells (by rw [hn]; exact hRslots)
  have hlt : W.heap.size < ((W.pushCell (freshCell P1.m.cls N.kN)).setVm vm').heap.size := by
    show W.heap.size < (W.pushCell (freshCell P1.m.cls N.kN)).heap.size
    rw [State.heap_size_pushCell]; omega
  rw [hfsz] at X3
  obtain ⟨g₁, hfrM⟩ := X3.frames_eq
  have hU : ((((W.pushCell (freshCell P1.m.cls N.kN)).setVm vm').setCell W.heap.size (npeBareV T.toThrowableT N.toNpeT (freshCell P1.m.cls N.kN) W.heap.size u0 sen)).setTop g).pushFrame (.throwing W.heap.size) = (((W.pushCell (freshCell P1.m.cls N.kN)).setVm vm').setCell W.heap.size (npeBareV T.toThrowableT N.toNpeT (freshCell P1.m.cls N.kN) W.heap.size u0 sen)).setFrames (.throwing W.heap.size :: .java g :: below) := by
    rw [State.pushFrame, State.frames_setTop _ hfrM, State.setTop_of_frames _ hfrM, State.setFrames_setFrames]
  refine ⟨_, W.heap.size, _, fun target ht => st.trans (by rw [← hU]; exact ht), X3.forget (fun y hy => ?_), heapAt_setCell_self _ hlt, hfound, rfl, by rw [size_setCell]; show (W.pushCell (freshCell P1.m.cls N.kN)).heap.size = _; rw [State.heap_size_pushCell]⟩
  simp only [List.mem_cons, List.not_mem_nil, or_false] at hy
  have hge : s.heap.size ≤ W.heap.size := X.same.2.1
  rcases hy with rfl | rfl | rfl | rfl | rfl <;> exact hge

section GX2
variable {p : Program} {l : Launch} {e : Env} {R : Room} {s : State} {m : MethodId} {args : Array Value} {below : List Frame} {meth : Method} {c : Code} {H : Heap} {locs : List Loc} {cells slots : Nat}
theorem gx_npe {pc : Nat} {ls : Array Slot} {rest : List Value} {Q : State → Prop} (hexec : p.tables.exec = Jvm.exec) (hl : l.stackTraces = false) {nb : Nat} {A : Nat → Prop}
    (hat : ∀ w ∈ vx_atN nb, w.before args s = true) (hgood : ∀ w ∈ vx_atN nb, vx_ot w = true)
    (hU : vx_Zq Bundle.tN "UNASSIGNED_STACK" Bundle.steD A s s.heap) (hN : vx_Zq Bundle.tN "SUPPRESSED_SENTINEL" Bundle.listD A s s.heap) (hS : va_S A s.heap H locs) (hsize : ls.size = c.maxLocals)
    (hRframes : 7 < R.frames) (hRlocals : (rest.map fun v => v.category).sum + 10240 ≤ R.locals) (hRcells : cells + 1 ≤ R.cells) (hRslots : slots + nb ≤ R.slots) (hlocks : meth.locks = false)
    (k : ∀ (H1 : Heap) (q9 : Addr) (ce : Cell), H1.size = H.size + 1 → H.size ≤ H1.size → (∀ q : Nat, q < H.size → H1[q]? = H[q]?) → va_S A s.heap H1 locs → H1[q9]? = some ce → ce.vm = .none → s.vm.findClass "java/lang/NullPointerException" = some ce.cls → vx_W p l e R s m args below meth c H1 locs (cells + 1) (slots + nb) Q (F0 m pc ls rest) q9) :
    vx_NoteN p l e R s m args below meth c H locs cells slots Q (F0 m pc ls rest) := by
  intro T hT X
  have htr : e.platform.stackTraces = false := (show e.platform.stackTraces = l.stackTraces by rw [X.admits.platform]).trans hl
  have Y := vx_rebase X (R' := { frames := R.frames, locals := R.locals, cells := 1, slots := nb }) (Nat.le_refl _) (Nat.le_refl _) hRcells hRslots
  have hhp : ((T.setVm s.vm).setFrames (.invoking m args :: below)).heap = H := hT
  have hW0 : s.WarmedH ((T.setVm s.vm).setFrames (.invoking m args :: below)).vm := State.WarmedH.refl s
  have hat' : ∀ w ∈ vx_atN nb, w.before args ((T.setVm s.vm).setFrames (.invoking m args :: below)) = true := fun w hw => vx_ot_at hW0 rfl (hgood w hw) (hat w hw)
  have hU' : vx_Zq Bundle.tN "UNASSIGNED_STACK" Bundle.steD A ((T.setVm s.vm).setFrames (.invoking m args :: below)) ((T.setVm s.vm).setFrames (.invoking m args :: below)).heap := by rw [hhp]; exact vx_Zq.moved hW0.alike (hU.kept hS.2.1)
  have hN' : vx_Zq Bundle.tN "SUPPRESSED_SENTINEL" Bundle.listD A ((T.setVm s.vm).setFrames (.invoking m args :: below)) ((T.setVm s.vm).setFrames (.invoking m args :: below)).heap := by rw [hhp]; exact vx_Zq.moved hW0.alike (hN.kept hS.2.1)
  obtain ⟨S, q, ce, st, Z, hce, hcl', hv, hsz9⟩ := gx_npeAt Y hexec htr (n := nb) (vx_own hat' (vx_isRefq hU'.1) (vx_isRefq hN'.1) hU'.2.word hN'.2.word) (fun x hx => nomatch hx)
    (g := F0 m pc ls rest) rfl hsize hRframes (by show 2 * 0 + (rest.map fun v => v.category).sum + 10240 ≤ R.locals; omega) (by show 0 + 1 ≤ 1; omega) (by show 0 + nb ≤ nb; omega) hlocks
  obtain ⟨f1, f2⟩ := vx_frame Z.same
  have f1' : H.size ≤ S.heap.size := by rw [← hT]; exact f1
  have f2' : ∀ q : Nat, q < H.size → S.heap[q]? = H[q]? := fun q hq => by
    rw [← hT]
    exact f2 q (by rw [← hT] at hq; exact hq) (fun z hz => nomatch hz)
  have X5 := vx_back9 X Y Z
  have X6 : Stand p l e R s m args below meth c S locs (cells + 1) (slots + nb) := { X5 with same := X5.same.mono (by omega) (by omega) }
  obtain ⟨t, a1, b1⟩ := k S.heap q ce (by rw [← hT]; exact hsz9) f1' f2' ⟨Nat.le_trans hS.1 f1', fun q h1 h2 => (f2' q (Nat.lt_of_lt_of_le h1 hS.1)).trans (hS.2.1 q h1 h2), hS.2.2⟩ hce hv hcl' S rfl X6
  exact ⟨t, st t a1, b1⟩

end GX2
end GX
/-! words that move, throws, handlers -/
section GT
theorem gtb_in (ws : List Cond) (ps : List Nat) (h : ws = ps.filterMap (fun i => lw_tbl[i]?)) : ∀ w ∈ ws, w ∈ lw_tbl := by
  intro w hw
  rw [h] at hw
  obtain ⟨i, -, hi⟩ := List.mem_filterMap.mp hw
  exact List.mem_of_getElem? hi
def gMv (w : Cond) : Bool := goodWord w || (match w with
  | .castable _ _ => true
  | .declares _ => true
  | _ => false)
theorem gMv_ot {w : Cond} (h : gMv w = true) : vx_ot w = true := by
  simp only [gMv, Bool.or_eq_true] at h
  rcases h with h | h
  · simp only [vx_ot, h, Bool.or_true]
  · cases w <;> first | rfl | cases h
variable {E : gE} {M : gM} {Q : gQ} {pc : Nat} {L : List (Nat × gV)} {st : List gV} {σ σ1 : gS}
theorem gMv_at (hE : gEnv E) {s : State} {args : Array Value} (hW : (ge_s E).WarmedH s.vm) (hts : ∀ w ∈ lw_all, w.before args s = true) {w : Cond} (hw : w ∈ lw_tbl) (hm : gMv w = true) : w.before args s = true := by
  simp only [gMv, Bool.or_eq_true] at hm
  rcases hm with hm | hm
  · exact hts w (lw_g hw hm)
  · cases w with
    | castable a b => exact va_Nw.use rfl (va_Nw.warmC hW (va_Nw.of rfl (hE.1 _ hw)))
    | declares x => exact va_Nw.use rfl (va_Nw.warmD hW (va_Nw.of rfl (hE.1 _ hw)))
    | _ => cases hm
theorem gtw_ISE : ∀ w ∈ vx_atS "PageGarden" 12 "java/lang/IllegalStateException" ["java/lang/RuntimeException", "java/lang/Exception"], w ∈ lw_tbl := gtb_in _ [123, 450, 459, 478, 481, 483, 451, 452, 172, 173, 453, 458, 479, 709, 440, 710, 442, 711, 444, 454, 456, 446, 705, 706, 708, 446, 2028, 2029, 2030, 699, 432, 699, 700, 701, 702, 434, 702, 703, 704, 705, 436, 2027, 2019, 2020, 2021, 462, 2022, 2023, 2024, 2025, 707, 448, 2026] (by decide +kernel)
theorem gtm_ISE : (vx_atS "PageGarden" 12 "java/lang/IllegalStateException" ["java/lang/RuntimeException", "java/lang/Exception"]).all gMv = true := by decide +kernel
theorem gtw_IAE : ∀ w ∈ vx_atS "PageGarden" 9 "java/lang/IllegalArgumentException" ["java/lang/RuntimeException", "java/lang/Exception"], w ∈ lw_tbl := gtb_in _ [123, 450, 459, 478, 481, 483, 451, 452, 172, 173, 453, 458, 479, 709, 440, 710, 442, 711, 444, 454, 456, 446, 705, 706, 708, 446, 696, 697, 698, 699, 432, 699, 700, 701, 702, 434, 702, 703, 704, 705, 436, 2005, 429, 430, 437, 438, 439, 441, 443, 445, 707, 448, 447] (by decide +kernel)
theorem gtm_IAE : (vx_atS "PageGarden" 9 "java/lang/IllegalArgumentException" ["java/lang/RuntimeException", "java/lang/Exception"]).all gMv = true := by decide +kernel
theorem gtw_IOB : ∀ w ∈ vx_atS "PageGarden" 3 "java/lang/IndexOutOfBoundsException" ["java/lang/RuntimeException", "java/lang/Exception"], w ∈ lw_tbl := gtb_in _ [123, 450, 459, 478, 481, 483, 451, 452, 172, 173, 453, 458, 479, 709, 440, 710, 442, 711, 444, 454, 456, 446, 705, 706, 708, 446, 1968, 1969, 1970, 699, 432, 699, 700, 701, 702, 434, 702, 703, 704, 705, 436, 2293, 2285, 2286, 2287, 463, 2288, 2289, 2290, 2291, 707, 448, 2292] (by decide +kernel)
theorem gtm_IOB : (vx_atS "PageGarden" 3 "java/lang/IndexOutOfBoundsException" ["java/lang/RuntimeException", "java/lang/Exception"]).all gMv = true := by decide +kernel
theorem gtw_NPE : ∀ w ∈ vx_atN 8, w ∈ lw_tbl := gtb_in _ [123, 450, 459, 478, 481, 483, 451, 452, 172, 173, 453, 458, 479, 709, 440, 710, 442, 711, 444, 454, 456, 446, 475, 465, 466, 2444, 2446, 472, 473, 2458, 2435, 2436, 2437, 2438, 431, 2438, 2439, 2440, 2441, 433, 2441, 2442, 2443, 451, 435, 164, 470, 2456, 2457, 464, 2452, 2453, 2455, 707, 448, 2450] (by decide +kernel)
theorem gtm_NPE : (vx_atN 8).all gMv = true := by decide +kernel
theorem gZq_at (hE : gEnv E) {p : Program} {s : State} {m : MethodId} {args : Array Value} {meth : Method} {c : Code} {R : Room} (hc : gCtx E M p s m args meth c R) {n d : String} (h : vx_Zq Bundle.tN n d (fun q => (ge_s E).heap.size ≤ q) (ge_s E) (ge_s E).heap) : vx_Zq Bundle.tN n d (fun q => (ge_s E).heap.size ≤ q) s s.heap :=
  vx_Zq.moved (State.WarmedH.alike (gCtx_warm hc)) (h.kept (fun q hq _ => gCtx_base hc q hq))
theorem gw_getOF {o n d : String} {v : Int32} {i idx : Nat} {r : Option Nat} (hm : (o, n, d, v, i) ∈ gOfL) (hq : Cond.fieldLink (gm_own M) idx o n d ∈ lw_all) (hrk : r = (gk E).2 i) (hd : decode (gm_cc M) pc = .ok (.getfield idx, 3)) (kk : gW E M Q (pc + 3) L (vI v :: st) σ) : gW E M Q pc L (vR r :: st) σ := by
  refine ⟨kk.1, kk.2.1, fun hE p e s m args below meth c R hc H locs k9 n9 ls hr e1 e2 hf hl => ?_⟩
  obtain ⟨a, ha, hOF⟩ := hE.2.2.2.2.2.2.2.2.2.2.2.2.1 _ hm
  cases hrk.trans ha
  obtain ⟨cf, k, i9, f, cell, h1, h2, h3, h4, h5, h6⟩ := hOF.moved (State.WarmedH.alike (gCtx_warm hc))
  exact W.getf hc.1 hc.2.1 hc.2.2.2.1 (hc.2.2.2.2.1 _ hq) h1 h2 (by rw [hr.2.1 _ (Nat.lt_of_not_le h6)]; exact h3) h4 h5 rfl rfl hd (kk.2.2 hE p e s m args below meth c R hc H locs k9 n9 ls hr e1 e2 hf hl)
def gthr (σ : gS) : gS := (σ.1, σ.2.1 + 1, σ.2.2 + 6)
theorem gRel.thr {H H1 : Heap} {n : Nat} (h : gRel E σ H) (hz : H1.size = H.size + 1) (ho : ∀ q, q < H.size → H1[q]? = H[q]?) : gRel E (σ.1, σ.2.1 + 1, σ.2.2 + n) H1 :=
  ⟨by rw [hz, h.1], fun q hq => by rw [ho q (Nat.lt_of_lt_of_le hq h.2.2.1)]; exact h.2.1 q hq, by have := h.2.2.1; omega, fun a c ha => (h.2.2.2 a c ha).kept (ho a (h.2.2.2 a c ha).lt)⟩
theorem gw_throwA {own cls : String} {names : List String} {ik ic : Nat} {k4 : Fin 4} {r : Option Nat} (j : Nat) (hj : L[j]? = some ((k4 : Nat), vR r)) (hms : r.isSome = true) (how : gm_own M = own) (hcls : Bundle.fit cls = true) (hnames : ∀ n ∈ names, Bundle.fit n = true) (hq1 : Cond.classLink own ik cls ∈ lw_all) (hq2 : Cond.initialized cls ∈ lw_all) (hq3 : ∀ w ∈ vx_atS own ic cls names, w ∈ lw_tbl) (hq4 : (vx_atS own ic cls names).all gMv = true)
    (d0 : decode (gm_cc M) pc = .ok (.new ik, 3)) (d3 : decode (gm_cc M) (pc + 3) = .ok (.dup, 1)) (d4 : decode (gm_cc M) (pc + 4) = .ok (.aload_n k4, 1)) (d5 : decode (gm_cc M) (pc + 5) = .ok (.invokespecial ic, 3)) (d8 : decode (gm_cc M) (pc + 8) = .ok (.athrow, 1)) (hxt : gm_xt M = []) (hdp : names.length + 6 ≤ gm_d M) (hst : gSum st ≤ 8) (hz : gm_zf M = σ.2.1 + 1) (hn : gm_nf M = σ.2.2 + 6) : gW E M (gQm E M (.inr cls) (gthr σ)) pc L st σ := by
  obtain ⟨sa, rfl⟩ : ∃ b, r = some b := by cases r with | none => cases hms | some b => exact ⟨b, rfl⟩
  refine ⟨by omega, by omega, fun hE p e s m args below meth c R hc H locs k9 n9 ls hr e1 e2 hf hl => ?_⟩
  subst how
  have hts := hc.2.2.2.2.1
  have hown := hc.2.2.2.1
  have hb := hc.2.1
  have hfr := gCtx_frames hc
  have hlo := gCtx_locals hc
  have hRz := gCtx_cells hc
  have hRn := gCtx_slots hc
  have hlocks : meth.locks = false := hc.2.2.2.2.2.1
  have hat : ∀ w ∈ vx_atS (gm_own M) ic cls names, w.before args s = true := fun w hw => gMv_at hE (gCtx_warm hc) hts (hq3 w hw) (List.all_eq_true.mp hq4 w hw)
  have hgood : ∀ w ∈ vx_atS (gm_own M) ic cls names, vx_ot w = true := fun w hw => gMv_ot (List.all_eq_true.mp hq4 w hw)
  have hU := gZq_at hE hc hE.2.2.2.2.2.2.2.2.2.2.1
  have hN := gZq_at hE hc hE.2.2.2.2.2.2.2.2.2.2.2.1
  have hSv : ∀ q : Nat, q < s.heap.size → ¬ (ge_s E).heap.size ≤ q → H[q]? = s.heap[q]? := fun q _ h2 => by rw [hr.2.1 q (Nat.lt_of_not_le h2), gCtx_base hc q (Nat.lt_of_not_le h2)]
  have hkm : gm_zf M - gm_z0 M = k9 + 1 := by omega
  have hnm : gm_nf M - gm_n0 M = n9 + 6 := by omega
  show W p (ge_l E) e R s m args below meth c H locs k9 n9 (vx_MQ below (gQc E (.inr cls) (gthr σ)) (gXC E (.inr cls) (gthr σ)) args s (gm_zf M - gm_z0 M) (gm_nf M - gm_n0 M) (gFree E)) (F0 m pc ls (st.map gv))
  rw [hkm, hnm]
  intro T hT X
  have htr : e.platform.stackTraces = false := (show e.platform.stackTraces = (ge_l E).stackTraces by rw [X.admits.platform]).trans hE.2.2.1
  have Y := vx_rebase X (R' := { frames := R.frames, locals := R.locals, cells := 1, slots := 6 }) (Nat.le_refl _) (Nat.le_refl _) (show k9 + 1 ≤ R.cells by omega) (show n9 + 6 ≤ R.slots by omega)
  obtain ⟨s', hA⟩ : ∃ z, z = (T.setVm s.vm).setFrames (.invoking m args :: below) := ⟨_, rfl⟩
  rw [← hA] at Y
  have hvm : s'.vm = s.vm := by rw [hA]; rfl
  have hhp : s'.heap = H := by rw [hA]; exact hT
  have hW0 : s.WarmedH s'.vm := by rw [hvm]; exact State.WarmedH.refl s
  have hat' : ∀ w ∈ vx_atS (gm_own M) ic cls names, w.before args s' = true := fun w hw => vx_ot_at hW0 hvm.symm (hgood w hw) (hat w hw)
  have hk' : (Cond.classLink (gm_own M) ik cls).before args s' = true := vx_ot_at hW0 hvm.symm rfl (hts _ hq1)
  have hini' : (Cond.initialized cls).before args s' = true := vx_ot_at hW0 hvm.symm rfl (hts _ hq2)
  have hU' : vx_Zq Bundle.tN "UNASSIGNED_STACK" Bundle.steD (fun q => (ge_s E).heap.size ≤ q) s' s'.heap := by rw [hhp]; exact vx_Zq.moved hW0.alike (hU.kept hSv)
  have hN' : vx_Zq Bundle.tN "SUPPRESSED_SENTINEL" Bundle.listD (fun q => (ge_s E).heap.size ≤ q) s' s'.heap := by rw [hhp]; exact vx_Zq.moved hW0.alike (hN.kept hSv)
  have h : ∀ w ∈ Bundle.ownAtoms (gm_own M) ic cls names, w.before args s' = true := vx_own hat' (vx_isRefq hU'.1) (vx_isRefq hN'.1) hU'.2.word hN'.2.word
  have hown' : s'.vm.findClass (gm_own M) = some m.cls := by rw [hvm]; exact hown
  have hins : (Cond.instantiable cls 6).before args s' = true := h _ (by simp [Bundle.ownAtoms])
  obtain ⟨vm₁, cX, kX, hfX, hkX, -, -, X₁, st1⟩ := Y.newCold hc.1 (own := gm_own M) (C := cls) (index := ik) (n := 6) hown' hk' hins hini'
    (g := F0 m pc ls (st.map gv)) rfl (by rw [hb]; exact d0) (Nat.le_refl _) (Nat.le_refl _)
  generalize hT1 : (T.setVm vm₁).pushCell { cls := cX, slots := kX.instanceTypes.map defaultValue, vm := .none } = T1 at X₁ st1
  have hcat : (Value.ref T.heap.size).category = 1 := rfl
  have hcellA : T1.heap[T.heap.size]? = some (freshCell cX kX) := by rw [← hT1]; exact State.heap_pushCell_size _ _
  have d3' : decode c.code (pc + 3) = .ok (.dup, 1) := by rw [hb]; exact d3
  have d4' : decode c.code (pc + 4) = .ok (.aload_n k4, 1) := by rw [hb]; exact d4
  have hcatS : ((st.map gv).map fun v => v.category).sum ≤ 8 := by rw [gSum_eq]; exact hst
  obtain ⟨U, hsteps, hrun, hend, hW, hsame, ce, hce, hO⟩ := X₁.ctorThrowS hc.1 htr (own := gm_own M) (cls := cls) (names := names) (ic := ic) hown' hcls hnames h (fun x hx => nomatch hx) hfX hkX hcellA (by rw [hhp, hT]; exact Nat.le_refl _) (msg := .ref sa) rfl
    (g := { method := m, pc := pc + 5, locals := ls, stack := .ref sa :: .ref T.heap.size :: .ref T.heap.size :: st.map gv, locked := none }) rfl (by rw [hc.2.2.1]; exact hl.1) rfl rfl (rest := st.map gv) rfl
    (by rw [hb]; exact d5) (by rw [hb]; exact d8) (by rw [hc.2.2.2.2.2.2.2.2.1, hxt]; intro x hx; cases hx) (by show names.length + 3 < R.frames; omega) (by simp only [List.map_cons, List.sum_cons, hcat]; show 2 * 0 + _ + (13 * (names.length + 1) + 42) ≤ R.locals; omega) hlocks
  obtain ⟨f1, f2⟩ := vx_frame hsame
  rw [hhp] at f1 f2
  have hWs : s.WarmedH U.vm := State.WarmedH.trans hW0 hW
  have hcl : s.vm.findClass cls = some ce.cls := by
    have h9 := hO.cls
    rw [hvm] at h9
    exact h9
  have h2 : (T.setVm s.vm).sameButNew ({ U with vm := s.vm } : State) [] (0 + 1) (0 + 6) := by
    subst hA
    obtain ⟨e1, e2⟩ := hsame
    rw [State.setFrames_setFrames] at e1
    exact ⟨e1, e2⟩
  have hall : s.sameButNew ({ U with vm := s.vm } : State) locs (k9 + 1) (n9 + 6) := by
    have h3 := X.same.trans h2
    rw [List.append_nil] at h3
    exact h3
  have hzU : U.heap.size = H.size + 1 := by
    have g1 : U.heap.size ≤ T.heap.size + (0 + 1) := h2.2.2.1
    have g2 : T.heap.size < U.heap.size := (Array.getElem?_eq_some_iff.mp hce).1
    rw [hT] at g1 g2
    omega
  refine ⟨U, ?_, .threw T.heap.size, hrun, hend, Or.inr ⟨T.heap.size, rfl, cls, ce, locs, ⟨rfl, hr.thr hzU (fun q hq => f2 q hq (fun z hz => nomatch hz))⟩, hce, hO.vm, hcl, hWs, hall, hf⟩⟩
  refine st1 _ ?_
  show Steps p.tables e below (T1.setTop { method := m, pc := pc + 3, locals := ls, stack := .ref T.heap.size :: st.map gv, locked := none }) _
  have hloc : ls[(k4 : Nat)]? = some (.val (.ref sa)) := lv_at hl j (gL_at hj)
  jvm_step X₁.here [X₁.here.top, hc.1, d3', Value.category]
  jvm_step X₁.here [X₁.here.top, hc.1, d4', hloc]
  exact ⟨rfl, hsteps⟩
theorem gx_catch {C name own : String} (how : gm_own M = own) (pre : List ExceptionTableEntry) (x : ExceptionTableEntry) (suf : List ExceptionTableEntry) (hsplit : gm_xt M = pre ++ x :: suf) (hpass : ∀ z ∈ pre, covers z pc = false ∨ (z.catchType ≠ 0 ∧ ∃ nm : String, Cond.classLink own z.catchType nm ∈ lw_all ∧ (C, nm) ∈ gNcL)) (hx : covers x pc = true) (h0 : x.catchType ≠ 0) (hlink : Cond.classLink own x.catchType name ∈ lw_all) (hcast : Cond.castable C name ∈ lw_tbl) {tgt : Nat} (ht : x.handlerPc = tgt) (kk : ∀ r : Option Nat, gW E M Q tgt L [vR r] σ) : gX E M Q pc L σ C := by
  subst how
  subst ht
  refine ⟨(kk none).1, (kk none).2.1, fun hE p e s m args below meth c R hc H locs k9 n9 ls rest q ce hr e1 e2 hf hl g1 g2 g3 => ?_⟩
  have hts := hc.2.2.2.2.1
  refine vx_catch (E := C) (name := name) hc.2.2.2.1 pre x suf (by rw [hc.2.2.2.2.2.2.2.2.1]; exact hsplit) (fun z hz => (hpass z hz).imp id (fun ⟨a, nm, b1, b2⟩ => ⟨a, nm, hts _ b1, va_Nc.moved (State.WarmedH.alike (gCtx_warm hc)) (hE.2.2.2.2.2.2.2.2.1 _ b2)⟩)) hx h0 (hts _ hlink) (gMv_at hE (gCtx_warm hc) hts hcast rfl) g1 g2 g3 ?_
  exact (kk (some q)).2.2 hE p e s m args below meth c R hc H locs k9 n9 ls hr e1 e2 hf hl
/-- the entry of a method with handlers -/
theorem gCT_ofH {y : MethodName} {cc : ByteArray} {nL d : Nat} {ret : Option FieldType} {hh : List (Nat × Nat × Nat × Nat)} {args : List gV} {out : gOut} {σ' : gS} (hny : gNy y) (hy : plainName y.cls = true) (hlen : gSum args ≤ nL)
    (k : gW E (y.cls, cc, nL, ret, y.name, tableOf hh, d, σ.2.1, σ.2.2, σ'.2.1, σ'.2.2) (gQm E (y.cls, cc, nL, ret, y.name, tableOf hh, d, σ.2.1, σ.2.2, σ'.2.1, σ'.2.2) out σ') 0 (gArgs 0 args) [] σ) : gCT E d y (wsW_ y cc nL ret hh) args σ out σ' := by
  refine ⟨k.1, k.2.1, fun hE => ?_⟩
  refine vx_ofWH (cc := cc) (maxL := nL) (ret := ret) (hh := hh) hy rfl ?_
  intro p e s m a below meth c s₁ B hml hv
  obtain ⟨rfl, hwarm, hrel⟩ := hv
  have hts := atoms_spec (ws := wsW_ y cc nL ret hh) B.pre
  have hl := lv_entry (args.map gv) (n := nL) (by rw [lg_len]; exact hlen)
  rw [lg_entry_eq]
  have k1 : σ.2.1 ≤ σ'.2.1 := k.1
  have k2 : σ.2.2 ≤ σ'.2.2 := k.2.1
  refine k.2.2 hE p e s m (args.map gv).toArray below meth c (gRm d (σ'.2.1 - σ.2.1) (σ'.2.2 - σ.2.2)) ⟨B.exec, B.bytes, hml, findClass_of_methodNamed B.named, fun w h => hts w (List.mem_cons_of_mem _ h), B.notSynchronized, B.returns, (name_of_methodNamed B.named B.method).1, vx_table (x := y) B (hts _ List.mem_cons_self), hwarm, Nat.le_refl _, Nat.le_refl _, ?_, ?_, hrel.2.1, gNm_of rfl rfl hny B.named⟩ s.heap [] 0 0 _ hrel rfl rfl (fun z hz => by cases hz) ?_
  · show σ'.2.1 = σ.2.1 + (σ'.2.1 - σ.2.1)
    omega
  · show σ'.2.2 = σ.2.2 + (σ'.2.2 - σ.2.2)
    omega
  · rw [← gArgs_eq]
    exact hl
/-- reading a field of null: a NullPointerException is on its way -/
def gnpe (σ : gS) : gS := (σ.1, σ.2.1 + 1, σ.2.2 + 8)
theorem gw_npeN {C host : String} {T : u_T} {N ci k idx : Nat} (hcl : gCl[ci]? = some (C, T, N)) (hk : k < N) (hin : ∀ w ∈ u_ws C T N, w ∈ lw_all) (hq : Cond.fieldLinkNest (gm_own M) idx (T k).1 (T k).2.1 (T k).2.2.1 host ∈ lw_tbl) (hdp : 110 ≤ gm_d M) (hst : gSum st ≤ 8) (hd : decode (gm_cc M) pc = .ok (.getfield idx, 3)) (kk : gX E M Q pc L (gnpe σ) "java/lang/NullPointerException") : gW E M Q pc L (vR none :: st) σ := by
  have hk1 : σ.2.1 + 1 ≤ gm_zf M := kk.1
  have hk2 : σ.2.2 + 8 ≤ gm_nf M := kk.2.1
  refine ⟨by omega, by omega, fun hE p e s m args below meth c R hc H locs k9 n9 ls hr e1 e2 hf hl => ?_⟩
  have hts := hc.2.2.2.2.1
  have hK := gK_at hE hc
  have hfr := gCtx_frames hc
  have hlo := gCtx_locals hc
  have hRz := gCtx_cells hc
  have hRn := gCtx_slots hc
  have hU := gZq_at hE hc hE.2.2.2.2.2.2.2.2.2.2.1
  have hN := gZq_at hE hc hE.2.2.2.2.2.2.2.2.2.2.2.1
  obtain ⟨hS, hfc, kC, hkC, -⟩ := hK.1 ci _ hcl
  obtain ⟨cf, kf, fi, f, hi, -⟩ := hS k hk
  intro U hUh X
  have hsz : s.heap.size ≤ H.size := by rw [← hUh]; exact X.same.2.1
  have hS9 : va_S (fun q => (ge_s E).heap.size ≤ q) s.heap H locs := ⟨hsz, fun q _ h2 => by rw [hr.2.1 q (Nat.lt_of_not_le h2), gCtx_base hc q (Nat.lt_of_not_le h2)], hf⟩
  have hnp : vx_NoteN p (ge_l E) e R s m args below meth c H locs k9 n9 (Q below args s) (F0 m pc ls (st.map gv)) := by
    refine gx_npe hc.1 hE.2.2.1 (nb := 8) (fun w hw => gMv_at hE (gCtx_warm hc) hts (gtw_NPE w hw) (List.all_eq_true.mp gtm_NPE w hw)) (fun w hw => gMv_ot (List.all_eq_true.mp gtm_NPE w hw)) hU hN hS9 (by rw [hc.2.2.1]; exact hl.1) (by omega) (by rw [gSum_eq]; omega) (by omega) (by omega) hc.2.2.2.2.2.1 (fun H1 q9 ce z0 z1 z2 z3 z4 z5 z6 => ?_)
    exact kk.2.2 hE p e s m args below meth c R hc H1 locs (k9 + 1) (n9 + 8) ls (st.map gv) q9 ce (hr.thr z0 z2) (by show σ.2.1 + 1 = _; omega) (by show σ.2.2 + 8 = _; omega) hf hl z4 z5 z6
  obtain ⟨vm', X1, st1⟩ := X.getfieldNullNest hc.1 hc.2.2.2.1 (va_Nw.use (A := args) rfl (va_Nw.warmF (gCtx_warm hc) (va_Nw.of rfl (hE.1 _ hq)))) hi (u_facts hfc hkC (u_lays hts hin hk) hi).1 (g := F0 m pc ls (.null :: st.map gv)) rfl (rest := st.map gv) rfl (by rw [hc.2.1]; exact hd)
  obtain ⟨t, st2, q⟩ := hnp (U.setVm vm') hUh X1
  exact ⟨t, st1 t st2, q⟩
end GT
theorem g_constBack {l : Launch} {R : Room} {p : Program} {e : Env} {below : List Frame} {s : State} {sargs : Array Value} {y : MethodName} {bytes : ByteArray} {kz : Int} {k : Int32} {b : Addr} (hexec : p.tables.exec = Jvm.exec)
    (hcode : ∀ (a' : Array Value) (U : State), s.WarmedH U.vm → (Cond.code y bytes 1 (some .boolean)).before a' U = true) (hplain : plainName y.cls = true) (d0 : decode bytes 0 = .ok (.iconst kz, 1)) (hkz : Int32.ofInt kz = k) (d1 : decode bytes 1 = .ok (.ireturn, 1)) (hk : narrow .boolean (.int k) = .int k)
    (hframes : 1 ≤ R.frames) (hlocals : 20 ≤ R.locals) : Back l R p e below s sargs y 3 8 (fun _ a => a = #[.ref b]) (fun A _ v B => v = some (.int k) ∧ B = A) := by
  intro m meth c A g ig mk a X hg hsize hdg hW hn hp
  subst hp
  subst hg
  obtain ⟨methY, cY, hmY, hcY, hbY, hlY, hretY, hlockY, -, -⟩ := Cond.code_spec hn (hcode #[] A.U X.warmed)
  obtain ⟨kY, hkY, hnameY⟩ := className_of_methodNamed hn
  refine ⟨some (.int k), A, X, ⟨rfl, rfl⟩, ?_⟩
  have hplainT : A.U.plainMethod mk := by
    refine State.plainMethod.of_name ?_
    intro k hk
    cases hkY.symm.trans hk
    rw [hnameY]; exact hplain
  rw [doInvoke_enter X.here.top [] hmY hcY hlockY (X.notFull hsize hframes (by rw [hlY]; omega))]
  have hU := X.here.enter #[.ref b] hmY hcY hplainT
  rw [hlY] at hU ⊢
  have hfU : ((A.U.setTop g).pushFrame (.java (entryFrame mk #[.ref b] 1))).frames = .java (entryFrame mk #[.ref b] 1) :: .java g :: below := by
    rw [frames_entered (s := A.U) (g := g) X.here.top, X.tail]
  have hmU : ((A.U.setTop g).pushFrame (.java (entryFrame mk #[.ref b] 1))).vm.method? mk = some methY := hmY
  show Steps p.tables e below (((A.U.setTop g).pushFrame (.java (entryFrame mk #[.ref b] 1))).setTop { method := mk, pc := 0, locals := #[.val (.ref b)], stack := [], locked := none }) _
  have hback := setFrames_entered (s := A.U) (g := g) X.here.top (.java (entryFrame mk #[.ref b] 1))
  rw [show A.U.frames.tail = below from X.tail] at hback
  have hcg0 : ((A.U.setTop g).pushFrame (.java (entryFrame mk #[.ref b] 1))).code? g.method = some c := by
    have h := X.here.code
    rw [State.code?_eq] at h ⊢
    exact h
  generalize ((A.U.setTop g).pushFrame (.java (entryFrame mk #[.ref b] 1))) = U at hU hfU hmU hback hcg0
  jvm_step hU [hU.top, hexec, hbY, d0, hkz]
  show Steps p.tables e below (U.setTop { method := mk, pc := 1, locals := #[.val (.ref b)], stack := [.int k], locked := none }) _
  jvm_step hU [hU.top, hexec, hbY, d1, hmU, hretY, hk]
  intro acts
  rw [doReturn_leave (u := U) (g := g) (f := { method := mk, pc := 1, locals := #[.val (.ref b)], stack := [], locked := none }) (meth := methY) (cg := c) (ig := ig) (len := 3) acts hfU hmU hlockY rfl rfl hcg0 hdg, hback, State.setTop_setTop]
  exact Steps.refl _
theorem gw_callKC {E : gE} {M : gM} {Q : gQ} {pc : Nat} {L : List (Nat × gV)} {σ : gS} {C owner : String} {idx : Nat} {x y : MethodName} {bytes : ByteArray} {kz : Int} {k : Int32} {r : Option Nat} {i : Nat} {rest : List gV}
    (h1 : Cond.methodLink (gm_own M) idx x ∈ lw_all) (h2 : Cond.sameMethod x.cls owner x.name x.desc ∈ lw_all) (h3 : Cond.selects C x y ∈ lw_all) (h4 : Cond.instanceMethod y ∈ lw_all) (h5 : Cond.code y bytes 1 (some .boolean) ∈ lw_all) (hz9 : Cond.declares ⟨owner, x.name, x.desc⟩ ∈ lw_tbl)
    (hdc : owner ≠ "java/lang/invoke/MethodHandle" ∧ owner ≠ "java/lang/invoke/VarHandle" ∧ (parseMethodDescriptor x.desc).map (fun d => d.parameters.length) = some 0) (hob : (C, i) ∈ gObjL) (hrk : r = (gk E).2 i)
    (hplain : plainName y.cls = true) (d0 : decode bytes 0 = .ok (.iconst kz, 1)) (hkz : Int32.ofInt kz = k) (d1 : decode bytes 1 = .ok (.ireturn, 1)) (hk : narrow .boolean (.int k) = .int k)
    (hdp : 1 ≤ gm_d M) (hrest : gSum rest ≤ 8) (hd : decode (gm_cc M) pc = .ok (.invokevirtual idx, 3)) (kk : gW E M Q (pc + 3) L (vI k :: rest) σ) : gW E M Q pc L (vR r :: rest) σ := by
  refine ⟨kk.1, kk.2.1, fun hE p e s m args below meth c R hc H locs k9 n9 ls hr e1 e2 hf hl => ?_⟩
  obtain ⟨b, hb9, -⟩ := hE.2.2.2.2.2.2.2.1 _ hob
  cases hrk.trans hb9
  have hfr := gCtx_frames hc
  have hlo := gCtx_locals hc
  have hts := hc.2.2.2.2.1
  have hl2 := hl.1
  intro T hT X
  obtain ⟨cell, hc1, hc2, hc3⟩ := g_objAt hE (gCtx_warm hc) hob hb9 hr
  have hK := g_constBack (l := ge_l E) (R := R) (p := p) (e := e) (below := below) (s := s) (sargs := args) (y := y) (b := b) hc.1 (fun a' U hW => word_at hW (Or.inl rfl) (hts _ h5)) hplain d0 hkz d1 hk (by omega) (by omega)
  obtain ⟨v, vm₁, B, hW₁, X', ⟨hv, hB⟩, st⟩ := va_callVU X hc.1 (own := gm_own M) (C := C) (owner := owner) (index := idx) (x := x) (bytes := bytes) (maxL := 1) (ret := some .boolean) hc.2.2.2.1 (hts _ h1) (hts _ h2) (va_Decl.abs (va_Nw.warmD (gCtx_warm hc) (va_Nw.of rfl (hE.1 _ hz9)))) ⟨hdc.1, hdc.2.1⟩ (hts _ h3) (hts _ h4) (hts _ h5) hK (by rw [hT]; exact hc1) hc2 hc3 (g := F0 m pc ls ((vR (some b) :: rest).map gv)) rfl (by show ls.size = _; rw [hl2, hc.2.2.1]) (argsL := []) (rest := rest.map gv) (fun sig h => by have h2 := hdc.2.2; rw [h] at h2; exact (Option.some.inj h2).symm) rfl (g_room hrest) (by rw [hc.2.1]; exact hd) (fun vm₁ hW₁ => rfl)
  subst hB
  subst hv
  obtain ⟨t, ht, hQ⟩ := kk.2.2 hE p e s m args below meth c R hc H locs k9 n9 ls hr e1 e2 hf hl (T.setVm vm₁) hT X'
  exact ⟨t, st _ ht, hQ⟩
