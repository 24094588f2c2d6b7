set_option maxRecDepth 100000
/-! THE LAW'S OWN BODY -/
def glb (κ : gK) (σ : gS) : Option Unit := if σ.2.1 ≤ κ.1 + 1200384 ∧ σ.2.2 ≤ 5487786 then some () else none
theorem glb_spec {κ : gK} {σ : gS} {u : Unit} (h : glb κ σ = some u) : σ.2.1 ≤ κ.1 + 1200384 ∧ σ.2.2 ≤ 5487786 := by
  unfold glb at h
  split at h
  · assumption
  · cases h
/-- the script's array: its class is an array class of ints, perhaps none that we name -/
def gXF (E : gE) : Prop := ArrOfT (ge_s E) (ge_A E 9) .int
def glX (σ : gS) (r : Option Nat) : Option Int32 := match r with
  | none => none
  | some a => match σ.1 a with
    | some (.inl q) => if q.1 = 9 then some (Int32.ofNat q.2.1) else none
    | _ => none
theorem glX_spec {σ : gS} {r : Option Nat} {v : Int32} (h : glX σ r = some v) : ∃ a q, r = some a ∧ σ.1 a = some (.inl q) ∧ q.1 = 9 ∧ v = Int32.ofNat q.2.1 := by
  cases r with
  | none => cases h
  | some a =>
    simp only [glX] at h
    split at h
    · rename_i q hq
      split at h
      · rename_i e; cases h; exact ⟨a, q, rfl, hq, e, rfl⟩
      · cases h
    · cases h
theorem gX_arr {E : gE} {M : gM} {p : Program} {s : State} {m : MethodId} {args : Array Value} {meth : Method} {c : Code} {R : Room} {base a : Nat} {cell : Cell} (hX : gXF E) (hc : gCtx E M p s m args meth c R) (hv : g_vm base a cell) (hcl : cell.cls = ge_A E 9) : s.isArrayOf cell .int :=
  ⟨hv.2.1, by rw [hcl]; exact ((arrOfT_moved (State.WarmedH.alike hc.2.2.2.2.2.2.2.2.2.1) hX) 0 (fun _ => .null)).2⟩
theorem gw_alenX {E : gE} {M : gM} {Q : gQ} {pc : Nat} {L : List (Nat × gV)} {st : List gV} {σ : gS} (hX : gXF E) {r : Option Nat} {v : Int32} (h : glX σ r = some v) (hd : decode (gm_cc M) pc = .ok (.arraylength, 1)) (kk : gW E M Q (pc + 1) L (vI v :: st) σ) : gW E M Q pc L (vR r :: st) σ := by
  obtain ⟨a, q, rfl, hq, h9, rfl⟩ := glX_spec h
  refine ⟨kk.1, kk.2.1, fun hE p e s m args below meth c R hc H locs k9 n9 ls hr e1 e2 hf hl => ?_⟩
  obtain ⟨cell, g1, g2, g3, g4, g5, g6, g7⟩ := hr.2.2.2 a _ hq
  rw [h9] at g3
  exact W.alen hc.1 hc.2.1 g1 (gX_arr hX hc g2 g3) g5 rfl rfl hd (kk.2.2 hE p e s m args below meth c R hc H locs k9 n9 ls hr e1 e2 hf hl)
theorem gw_ialdX {E : gE} {M : gM} {Q : gQ} {pc : Nat} {L : List (Nat × gV)} {st : List gV} {σ : gS} (hX : gXF E) {r : Option Nat} {i v : Int32} (h : gaI σ r 9 i = some v) (hd : decode (gm_cc M) pc = .ok (.iaload, 1)) (kk : gW E M Q (pc + 1) L (vI v :: st) σ) : gW E M Q pc L (vI i :: vR r :: st) σ := by
  obtain ⟨a, n, f, rfl, hq, hi, rfl⟩ := gaI_spec h
  refine ⟨kk.1, kk.2.1, fun hE p e s m args below meth c R hc H locs k9 n9 ls hr e1 e2 hf hl => ?_⟩
  obtain ⟨cell, g1, g2, g3, g4, g5, g6, g7⟩ := hr.2.2.2 a _ hq
  have hlt : i.toNatClampNeg < n := Nat.not_le.mp fun q => hi (Or.inr q)
  have g4 : n ≤ cell.slots.size := g4
  exact W.iald (v := .int (f i.toNatClampNeg)) hc.1 hc.2.1 g1 (gX_arr hX hc g2 g3) g2.1 (fun q => hi (q.imp id (fun z => Nat.le_trans g4 z))) (g6 _ hlt) rfl rfl hd (kk.2.2 hE p e s m args below meth c R hc H locs k9 n9 ls hr e1 e2 hf hl)
/-- the law has ended with r -/
def gQl (E : gE) (r : Int32) : gQ := fun below args s => fun t => s.heap.size = (ge_s E).heap.size → ∃ o, t.status = .running ∧ Ended t below o ∧ o = .returned (some (.int r)) ∧ Framed s o t [] 1200384 5487786
theorem gl_ret {E : gE} {M : gM} {pc : Nat} {L : List (Nat × gV)} {r : Int32} {σ : gS} {u u2 : Unit} (hzz : gm_zf M = (gk E).1 + 1200384) (hnn : gm_nf M = 5487786) (hz0 : gm_z0 M = (gk E).1) (hn0 : gm_n0 M = 0) (hret : gm_ret M = some .boolean) (hok : gok .boolean r = some u) (hb : glb (gk E) σ = some u2)
    (hd : decode (gm_cc M) pc = .ok (.ireturn, 1)) : gW E M (gQl E r) pc L [vI r] σ := by
  obtain ⟨b1, b2⟩ := glb_spec hb
  refine ⟨by omega, by omega, fun hE p e s m args below meth c R hc H locs k9 n9 ls hr e1 e2 hf hl => ?_⟩
  have hnar : narrow .boolean (.int r) = .int r := (gok_spec hok).1
  have hlocks := hc.2.2.2.2.2.1
  have hret' : meth.sig.returnType = some .boolean := hc.2.2.2.2.2.2.1.trans hret
  intro T hT X
  have fin : ∀ {locs' : List Loc} {k n : Nat}, Stand p (ge_l E) e R s m args below meth c T locs' k n → (s.heap.size = (ge_s E).heap.size → locs' = [] ∧ k = 1200384 ∧ n = 5487786) → ∃ t, Steps p.tables e below (T.setTop (F0 m pc ls ([vI r].map gv))) t ∧ gQl E r below args s t := by
    intro locs' k n X hq
    obtain ⟨fs, hre, hrun, hended, hW, hframe⟩ := X.leave (v := some (.int r)) (hlocks := hlocks) (fun h => by rw [hret'] at h; cases h)
    have hmeth' : T.vm.method? m = some meth := X.method'
    have hcode : c.code = gm_cc M := hc.2.1
    refine ⟨T.setFrames fs, ?_, fun hsz => ?_⟩
    · show Steps p.tables e below (T.setTop { method := m, pc := pc, locals := ls, stack := [.int r], locked := none }) _
      jvm_step X.here [X.here.top, hc.1, hcode, hd, hmeth', hret', hnar]
      first | (intro acts; rw [hre _ acts rfl rfl rfl]) | rw [hre _ _ rfl rfl rfl]
      exact Steps.refl _
    · obtain ⟨rfl, rfl, rfl⟩ := hq hsz
      exact ⟨.returned (some (.int r)), hrun, hended, rfl, ⟨_, rfl⟩, hW, hframe⟩
  by_cases hsz : s.heap.size = (ge_s E).heap.size
  · exact fin (stand_widen (k := 1200384) (n := 5487786) (Stand.forget (locs := []) X (fun q hq => by rw [hsz]; exact hf q hq)) (by omega) (by omega)) (fun _ => ⟨rfl, rfl, rfl⟩)
  · exact fin X (fun h => absurd h hsz)
def dkwL_law_57 : List UInt8 := [132, 4, 3, 167, 250, 151, 4, 172]
abbrev dktL_law_57 : List UInt8 := dkwL_law_57 ++ []
def dkwL_law_56 : List UInt8 := [148, 153, 0, 5, 3, 172, 167, 0, 17, 43, 182, 0, 168, 44, 182, 0, 172, 148, 153, 0, 5, 3, 172]
abbrev dktL_law_56 : List UInt8 := dkwL_law_56 ++ dktL_law_57
def dkwL_law_55 : List UInt8 := [54, 6, 44, 182, 0, 91, 21, 5, 159, 0, 5, 3, 172, 21, 5, 154, 0, 15, 45, 3, 47, 21, 6, 133]
abbrev dktL_law_55 : List UInt8 := dkwL_law_55 ++ dktL_law_56
def dkwL_law_54 : List UInt8 := [182, 0, 161, 44, 182, 0, 164, 159, 0, 63, 3, 172, 43, 45, 184, 0, 165, 54, 5, 44, 182, 0, 167]
abbrev dktL_law_54 : List UInt8 := dkwL_law_54 ++ dktL_law_55
def dkwL_law_53 : List UInt8 := [153, 0, 5, 3, 172, 167, 0, 87, 43, 182, 0, 157, 44, 182, 0, 160, 159, 0, 76, 3, 172, 43]
abbrev dktL_law_53 : List UInt8 := dkwL_law_53 ++ dktL_law_54
def dkwL_law_52 : List UInt8 := [182, 0, 91, 21, 5, 159, 0, 5, 3, 172, 21, 5, 154, 0, 15, 45, 3, 47, 21, 6, 133, 148]
abbrev dktL_law_52 : List UInt8 := dkwL_law_52 ++ dktL_law_53
def dkwL_law_51 : List UInt8 := [21, 4, 4, 96, 46, 45, 184, 0, 154, 54, 5, 44, 42, 21, 4, 4, 96, 46, 182, 0, 156, 54, 6, 44]
abbrev dktL_law_51 : List UInt8 := dkwL_law_51 ++ dktL_law_52
def dkwL_law_50 : List UInt8 := [172, 21, 5, 154, 0, 15, 45, 3, 47, 21, 6, 133, 148, 153, 0, 5, 3, 172, 167, 0, 143, 43, 42]
abbrev dktL_law_50 : List UInt8 := dkwL_law_50 ++ dktL_law_51
def dkwL_law_49 : List UInt8 := [54, 5, 44, 42, 21, 4, 4, 96, 46, 182, 0, 153, 54, 6, 44, 182, 0, 91, 21, 5, 159, 0, 5, 3]
abbrev dktL_law_49 : List UInt8 := dkwL_law_49 ++ dktL_law_50
def dkwL_law_48 : List UInt8 := [21, 6, 133, 148, 153, 0, 5, 3, 172, 167, 0, 199, 43, 42, 21, 4, 4, 96, 46, 45, 184, 0, 151]
abbrev dktL_law_48 : List UInt8 := dkwL_law_48 ++ dktL_law_49
def dkwL_law_47 : List UInt8 := [182, 0, 150, 54, 6, 44, 182, 0, 91, 21, 5, 159, 0, 5, 3, 172, 21, 5, 154, 0, 15, 45, 3, 47]
abbrev dktL_law_47 : List UInt8 := dkwL_law_47 ++ dktL_law_48
def dkwL_law_46 : List UInt8 := [167, 0, 255, 43, 42, 21, 4, 4, 96, 46, 45, 184, 0, 148, 54, 5, 44, 42, 21, 4, 4, 96, 46]
abbrev dktL_law_46 : List UInt8 := dkwL_law_46 ++ dktL_law_47
def dkwL_law_45 : List UInt8 := [21, 5, 159, 0, 5, 3, 172, 21, 5, 154, 0, 15, 45, 3, 47, 21, 6, 133, 148, 153, 0, 5, 3, 172]
abbrev dktL_law_45 : List UInt8 := dkwL_law_45 ++ dktL_law_46
def dkwL_law_44 : List UInt8 := [46, 45, 184, 0, 145, 54, 5, 44, 42, 21, 4, 4, 96, 46, 182, 0, 147, 54, 6, 44, 182, 0, 91]
abbrev dktL_law_44 : List UInt8 := dkwL_law_44 ++ dktL_law_45
def dkwL_law_43 : List UInt8 := [154, 0, 15, 45, 3, 47, 21, 6, 133, 148, 153, 0, 5, 3, 172, 167, 1, 55, 43, 42, 21, 4, 4, 96]
abbrev dktL_law_43 : List UInt8 := dkwL_law_43 ++ dktL_law_44
def dkwL_law_42 : List UInt8 := [21, 4, 4, 96, 46, 182, 0, 144, 54, 6, 44, 182, 0, 91, 21, 5, 159, 0, 5, 3, 172, 21, 5]
abbrev dktL_law_42 : List UInt8 := dkwL_law_42 ++ dktL_law_43
def dkwL_law_41 : List UInt8 := [182, 0, 141, 159, 1, 113, 3, 172, 43, 42, 21, 4, 4, 96, 46, 45, 184, 0, 142, 54, 5, 44, 42]
abbrev dktL_law_41 : List UInt8 := dkwL_law_41 ++ dktL_law_42
def dkwL_law_40 : List UInt8 := [154, 0, 15, 45, 3, 47, 21, 6, 133, 148, 153, 0, 5, 3, 172, 167, 1, 124, 43, 182, 0, 138, 44]
abbrev dktL_law_40 : List UInt8 := dkwL_law_40 ++ dktL_law_41
def dkwL_law_39 : List UInt8 := [21, 4, 4, 96, 46, 182, 0, 137, 54, 6, 44, 182, 0, 91, 21, 5, 159, 0, 5, 3, 172, 21, 5]
abbrev dktL_law_39 : List UInt8 := dkwL_law_39 ++ dktL_law_40
def dkwL_law_38 : List UInt8 := [153, 0, 5, 3, 172, 167, 1, 180, 43, 42, 21, 4, 4, 96, 46, 45, 184, 0, 135, 54, 5, 44, 42]
abbrev dktL_law_38 : List UInt8 := dkwL_law_38 ++ dktL_law_39
def dkwL_law_37 : List UInt8 := [182, 0, 91, 21, 5, 159, 0, 5, 3, 172, 21, 5, 154, 0, 15, 45, 3, 47, 21, 6, 133, 148]
abbrev dktL_law_37 : List UInt8 := dkwL_law_37 ++ dktL_law_38
def dkwL_law_36 : List UInt8 := [184, 0, 132, 54, 5, 44, 42, 21, 4, 4, 96, 46, 42, 21, 4, 5, 96, 46, 182, 0, 134, 54, 6, 44]
abbrev dktL_law_36 : List UInt8 := dkwL_law_36 ++ dktL_law_37
def dkwL_law_35 : List UInt8 := [153, 0, 5, 3, 172, 167, 1, 248, 43, 42, 21, 4, 4, 96, 46, 42, 21, 4, 5, 96, 46, 45]
abbrev dktL_law_35 : List UInt8 := dkwL_law_35 ++ dktL_law_36
def dkwL_law_34 : List UInt8 := [182, 0, 91, 21, 5, 159, 0, 5, 3, 172, 21, 5, 154, 0, 15, 45, 3, 47, 21, 6, 133, 148]
abbrev dktL_law_34 : List UInt8 := dkwL_law_34 ++ dktL_law_35
def dkwL_law_33 : List UInt8 := [184, 0, 129, 54, 5, 44, 42, 21, 4, 4, 96, 46, 42, 21, 4, 5, 96, 46, 182, 0, 131, 54, 6, 44]
abbrev dktL_law_33 : List UInt8 := dkwL_law_33 ++ dktL_law_34
def dkwL_law_32 : List UInt8 := [153, 0, 5, 3, 172, 167, 2, 60, 43, 42, 21, 4, 4, 96, 46, 42, 21, 4, 5, 96, 46, 45]
abbrev dktL_law_32 : List UInt8 := dkwL_law_32 ++ dktL_law_33
def dkwL_law_31 : List UInt8 := [182, 0, 91, 21, 5, 159, 0, 5, 3, 172, 21, 5, 154, 0, 15, 45, 3, 47, 21, 6, 133, 148]
abbrev dktL_law_31 : List UInt8 := dkwL_law_31 ++ dktL_law_32
def dkwL_law_30 : List UInt8 := [184, 0, 126, 54, 5, 44, 42, 21, 4, 4, 96, 46, 42, 21, 4, 5, 96, 46, 182, 0, 128, 54, 6, 44]
abbrev dktL_law_30 : List UInt8 := dkwL_law_30 ++ dktL_law_31
def dkwL_law_29 : List UInt8 := [153, 0, 5, 3, 172, 167, 2, 128, 43, 42, 21, 4, 4, 96, 46, 42, 21, 4, 5, 96, 46, 45]
abbrev dktL_law_29 : List UInt8 := dkwL_law_29 ++ dktL_law_30
def dkwL_law_28 : List UInt8 := [182, 0, 91, 21, 5, 159, 0, 5, 3, 172, 21, 5, 154, 0, 15, 45, 3, 47, 21, 6, 133, 148]
abbrev dktL_law_28 : List UInt8 := dkwL_law_28 ++ dktL_law_29
def dkwL_law_27 : List UInt8 := [184, 0, 123, 54, 5, 44, 42, 21, 4, 4, 96, 46, 42, 21, 4, 5, 96, 46, 182, 0, 125, 54, 6, 44]
abbrev dktL_law_27 : List UInt8 := dkwL_law_27 ++ dktL_law_28
def dkwL_law_26 : List UInt8 := [148, 153, 0, 5, 3, 172, 167, 2, 196, 43, 42, 21, 4, 4, 96, 46, 42, 21, 4, 5, 96, 46, 45]
abbrev dktL_law_26 : List UInt8 := dkwL_law_26 ++ dktL_law_27
def dkwL_law_25 : List UInt8 := [54, 6, 44, 182, 0, 91, 21, 5, 159, 0, 5, 3, 172, 21, 5, 154, 0, 15, 45, 3, 47, 21, 6, 133]
abbrev dktL_law_25 : List UInt8 := dkwL_law_25 ++ dktL_law_26
def dkwL_law_24 : List UInt8 := [46, 45, 184, 0, 120, 54, 5, 44, 42, 21, 4, 4, 96, 46, 42, 21, 4, 5, 96, 46, 182, 0, 122]
abbrev dktL_law_24 : List UInt8 := dkwL_law_24 ++ dktL_law_25
def dkwL_law_23 : List UInt8 := [21, 6, 133, 148, 153, 0, 5, 3, 172, 167, 3, 8, 43, 42, 21, 4, 4, 96, 46, 42, 21, 4, 5, 96]
abbrev dktL_law_23 : List UInt8 := dkwL_law_23 ++ dktL_law_24
def dkwL_law_22 : List UInt8 := [182, 0, 119, 54, 6, 44, 182, 0, 91, 21, 5, 159, 0, 5, 3, 172, 21, 5, 154, 0, 15, 45, 3, 47]
abbrev dktL_law_22 : List UInt8 := dkwL_law_22 ++ dktL_law_23
def dkwL_law_21 : List UInt8 := [167, 3, 64, 43, 42, 21, 4, 4, 96, 46, 45, 184, 0, 117, 54, 5, 44, 42, 21, 4, 4, 96, 46]
abbrev dktL_law_21 : List UInt8 := dkwL_law_21 ++ dktL_law_22
def dkwL_law_20 : List UInt8 := [21, 5, 159, 0, 5, 3, 172, 21, 5, 154, 0, 15, 45, 3, 47, 21, 6, 133, 148, 153, 0, 5, 3, 172]
abbrev dktL_law_20 : List UInt8 := dkwL_law_20 ++ dktL_law_21
def dkwL_law_19 : List UInt8 := [46, 45, 184, 0, 114, 54, 5, 44, 42, 21, 4, 4, 96, 46, 182, 0, 116, 54, 6, 44, 182, 0, 91]
abbrev dktL_law_19 : List UInt8 := dkwL_law_19 ++ dktL_law_20
def dkwL_law_18 : List UInt8 := [154, 0, 15, 45, 3, 47, 21, 6, 133, 148, 153, 0, 5, 3, 172, 167, 3, 120, 43, 42, 21, 4, 4, 96]
abbrev dktL_law_18 : List UInt8 := dkwL_law_18 ++ dktL_law_19
def dkwL_law_17 : List UInt8 := [21, 4, 4, 96, 46, 182, 0, 113, 54, 6, 44, 182, 0, 91, 21, 5, 159, 0, 5, 3, 172, 21, 5]
abbrev dktL_law_17 : List UInt8 := dkwL_law_17 ++ dktL_law_18
def dkwL_law_16 : List UInt8 := [153, 0, 5, 3, 172, 167, 3, 176, 43, 42, 21, 4, 4, 96, 46, 45, 184, 0, 111, 54, 5, 44, 42]
abbrev dktL_law_16 : List UInt8 := dkwL_law_16 ++ dktL_law_17
def dkwL_law_15 : List UInt8 := [182, 0, 91, 21, 5, 159, 0, 5, 3, 172, 21, 5, 154, 0, 15, 45, 3, 47, 21, 6, 133, 148]
abbrev dktL_law_15 : List UInt8 := dkwL_law_15 ++ dktL_law_16
def dkwL_law_14 : List UInt8 := [148, 153, 0, 5, 3, 172, 167, 3, 220, 43, 45, 184, 0, 108, 54, 5, 44, 182, 0, 110, 54, 6, 44]
abbrev dktL_law_14 : List UInt8 := dkwL_law_14 ++ dktL_law_15
def dkwL_law_13 : List UInt8 := [54, 6, 44, 182, 0, 91, 21, 5, 159, 0, 5, 3, 172, 21, 5, 154, 0, 15, 45, 3, 47, 21, 6, 133]
abbrev dktL_law_13 : List UInt8 := dkwL_law_13 ++ dktL_law_14
def dkwL_law_12 : List UInt8 := [21, 6, 133, 148, 153, 0, 5, 3, 172, 167, 4, 8, 43, 45, 184, 0, 105, 54, 5, 44, 182, 0, 107]
abbrev dktL_law_12 : List UInt8 := dkwL_law_12 ++ dktL_law_13
def dkwL_law_11 : List UInt8 := [182, 0, 104, 54, 6, 44, 182, 0, 91, 21, 5, 159, 0, 5, 3, 172, 21, 5, 154, 0, 15, 45, 3, 47]
abbrev dktL_law_11 : List UInt8 := dkwL_law_11 ++ dktL_law_12
def dkwL_law_10 : List UInt8 := [167, 4, 64, 43, 42, 21, 4, 4, 96, 46, 45, 184, 0, 102, 54, 5, 44, 42, 21, 4, 4, 96, 46]
abbrev dktL_law_10 : List UInt8 := dkwL_law_10 ++ dktL_law_11
def dkwL_law_9 : List UInt8 := [21, 5, 159, 0, 5, 3, 172, 21, 5, 154, 0, 15, 45, 3, 47, 21, 6, 133, 148, 153, 0, 5, 3, 172]
abbrev dktL_law_9 : List UInt8 := dkwL_law_9 ++ dktL_law_10
def dkwL_law_8 : List UInt8 := [46, 45, 184, 0, 98, 54, 5, 44, 42, 21, 4, 4, 96, 46, 182, 0, 101, 54, 6, 44, 182, 0, 91]
abbrev dktL_law_8 : List UInt8 := dkwL_law_8 ++ dktL_law_9
def dkwL_law_7 : List UInt8 := [154, 0, 15, 45, 3, 47, 21, 6, 133, 148, 153, 0, 5, 3, 172, 167, 4, 120, 43, 42, 21, 4, 4, 96]
abbrev dktL_law_7 : List UInt8 := dkwL_law_7 ++ dktL_law_8
def dkwL_law_6 : List UInt8 := [21, 4, 5, 96, 46, 182, 0, 97, 54, 6, 44, 182, 0, 91, 21, 5, 159, 0, 5, 3, 172, 21, 5]
abbrev dktL_law_6 : List UInt8 := dkwL_law_6 ++ dktL_law_7
def dkwL_law_5 : List UInt8 := [4, 96, 46, 42, 21, 4, 5, 96, 46, 45, 184, 0, 94, 54, 5, 44, 42, 21, 4, 4, 96, 46, 42]
abbrev dktL_law_5 : List UInt8 := dkwL_law_5 ++ dktL_law_6
def dkwL_law_4 : List UInt8 := [21, 5, 154, 0, 15, 45, 3, 47, 21, 6, 133, 148, 153, 0, 5, 3, 172, 167, 4, 188, 43, 42, 21, 4]
abbrev dktL_law_4 : List UInt8 := dkwL_law_4 ++ dktL_law_5
def dkwL_law_3 : List UInt8 := [43, 45, 184, 0, 85, 54, 5, 44, 182, 0, 90, 54, 6, 44, 182, 0, 91, 21, 5, 159, 0, 5, 3, 172]
abbrev dktL_law_3 : List UInt8 := dkwL_law_3 ++ dktL_law_4
def dkwL_law_2 : List UInt8 := [170, 0, 0, 5, 86, 0, 0, 0, 0, 0, 0, 0, 24, 0, 0, 0, 113, 0, 0, 0, 157, 0, 0, 0, 225, 0, 0, 1, 25, 0, 0, 1, 81, 0, 0, 1, 125, 0, 0, 1, 169, 0, 0, 1, 225, 0, 0, 2, 25, 0, 0, 2, 81, 0, 0, 2, 149, 0, 0, 2, 217, 0, 0, 3, 29, 0, 0, 3, 97, 0, 0, 3, 165, 0, 0, 3, 221, 0, 0, 3, 234, 0, 0, 4, 34, 0, 0, 4, 90, 0, 0, 4, 146, 0, 0, 4, 202, 0, 0, 5, 2, 0, 0, 5, 15, 0, 0, 5, 28, 0, 0, 5, 72]
abbrev dktL_law_2 : List UInt8 := dkwL_law_2 ++ dktL_law_3
def dkwL_law_1 : List UInt8 := [21, 4, 42, 190, 6, 100, 163, 5, 102, 42, 21, 4, 46, 16, 31, 126]
abbrev dktL_law_1 : List UInt8 := dkwL_law_1 ++ dktL_law_2
def dkwL_law_0 : List UInt8 := [187, 0, 8, 89, 183, 0, 81, 76, 187, 0, 82, 89, 183, 0, 84, 77, 4, 188, 11, 78, 3, 54, 4]
abbrev dktL_law_0 : List UInt8 := dkwL_law_0 ++ dktL_law_1
theorem dksL_law_0 : cL_law.data.toList.drop 0 = dktL_law_0 := by decide +kernel
theorem dksL_law_1 : cL_law.data.toList.drop 23 = dktL_law_1 := dk_seg dksL_law_0 23 rfl rfl
theorem dksL_law_2 : cL_law.data.toList.drop 39 = dktL_law_2 := dk_seg dksL_law_1 16 rfl rfl
theorem dksL_law_3 : cL_law.data.toList.drop 152 = dktL_law_3 := dk_seg dksL_law_2 113 rfl rfl
theorem dksL_law_4 : cL_law.data.toList.drop 176 = dktL_law_4 := dk_seg dksL_law_3 24 rfl rfl
theorem dksL_law_5 : cL_law.data.toList.drop 200 = dktL_law_5 := dk_seg dksL_law_4 24 rfl rfl
theorem dksL_law_6 : cL_law.data.toList.drop 223 = dktL_law_6 := dk_seg dksL_law_5 23 rfl rfl
theorem dksL_law_7 : cL_law.data.toList.drop 246 = dktL_law_7 := dk_seg dksL_law_6 23 rfl rfl
theorem dksL_law_8 : cL_law.data.toList.drop 270 = dktL_law_8 := dk_seg dksL_law_7 24 rfl rfl
theorem dksL_law_9 : cL_law.data.toList.drop 293 = dktL_law_9 := dk_seg dksL_law_8 23 rfl rfl
theorem dksL_law_10 : cL_law.data.toList.drop 317 = dktL_law_10 := dk_seg dksL_law_9 24 rfl rfl
theorem dksL_law_11 : cL_law.data.toList.drop 340 = dktL_law_11 := dk_seg dksL_law_10 23 rfl rfl
theorem dksL_law_12 : cL_law.data.toList.drop 364 = dktL_law_12 := dk_seg dksL_law_11 24 rfl rfl
theorem dksL_law_13 : cL_law.data.toList.drop 387 = dktL_law_13 := dk_seg dksL_law_12 23 rfl rfl
theorem dksL_law_14 : cL_law.data.toList.drop 411 = dktL_law_14 := dk_seg dksL_law_13 24 rfl rfl
theorem dksL_law_15 : cL_law.data.toList.drop 434 = dktL_law_15 := dk_seg dksL_law_14 23 rfl rfl
theorem dksL_law_16 : cL_law.data.toList.drop 456 = dktL_law_16 := dk_seg dksL_law_15 22 rfl rfl
theorem dksL_law_17 : cL_law.data.toList.drop 479 = dktL_law_17 := dk_seg dksL_law_16 23 rfl rfl
theorem dksL_law_18 : cL_law.data.toList.drop 502 = dktL_law_18 := dk_seg dksL_law_17 23 rfl rfl
theorem dksL_law_19 : cL_law.data.toList.drop 526 = dktL_law_19 := dk_seg dksL_law_18 24 rfl rfl
theorem dksL_law_20 : cL_law.data.toList.drop 549 = dktL_law_20 := dk_seg dksL_law_19 23 rfl rfl
theorem dksL_law_21 : cL_law.data.toList.drop 573 = dktL_law_21 := dk_seg dksL_law_20 24 rfl rfl
theorem dksL_law_22 : cL_law.data.toList.drop 596 = dktL_law_22 := dk_seg dksL_law_21 23 rfl rfl
theorem dksL_law_23 : cL_law.data.toList.drop 620 = dktL_law_23 := dk_seg dksL_law_22 24 rfl rfl
theorem dksL_law_24 : cL_law.data.toList.drop 644 = dktL_law_24 := dk_seg dksL_law_23 24 rfl rfl
theorem dksL_law_25 : cL_law.data.toList.drop 667 = dktL_law_25 := dk_seg dksL_law_24 23 rfl rfl
theorem dksL_law_26 : cL_law.data.toList.drop 691 = dktL_law_26 := dk_seg dksL_law_25 24 rfl rfl
theorem dksL_law_27 : cL_law.data.toList.drop 714 = dktL_law_27 := dk_seg dksL_law_26 23 rfl rfl
theorem dksL_law_28 : cL_law.data.toList.drop 738 = dktL_law_28 := dk_seg dksL_law_27 24 rfl rfl
theorem dksL_law_29 : cL_law.data.toList.drop 760 = dktL_law_29 := dk_seg dksL_law_28 22 rfl rfl
theorem dksL_law_30 : cL_law.data.toList.drop 782 = dktL_law_30 := dk_seg dksL_law_29 22 rfl rfl
theorem dksL_law_31 : cL_law.data.toList.drop 806 = dktL_law_31 := dk_seg dksL_law_30 24 rfl rfl
theorem dksL_law_32 : cL_law.data.toList.drop 828 = dktL_law_32 := dk_seg dksL_law_31 22 rfl rfl
theorem dksL_law_33 : cL_law.data.toList.drop 850 = dktL_law_33 := dk_seg dksL_law_32 22 rfl rfl
theorem dksL_law_34 : cL_law.data.toList.drop 874 = dktL_law_34 := dk_seg dksL_law_33 24 rfl rfl
theorem dksL_law_35 : cL_law.data.toList.drop 896 = dktL_law_35 := dk_seg dksL_law_34 22 rfl rfl
theorem dksL_law_36 : cL_law.data.toList.drop 918 = dktL_law_36 := dk_seg dksL_law_35 22 rfl rfl
theorem dksL_law_37 : cL_law.data.toList.drop 942 = dktL_law_37 := dk_seg dksL_law_36 24 rfl rfl
theorem dksL_law_38 : cL_law.data.toList.drop 964 = dktL_law_38 := dk_seg dksL_law_37 22 rfl rfl
theorem dksL_law_39 : cL_law.data.toList.drop 987 = dktL_law_39 := dk_seg dksL_law_38 23 rfl rfl
theorem dksL_law_40 : cL_law.data.toList.drop 1010 = dktL_law_40 := dk_seg dksL_law_39 23 rfl rfl
theorem dksL_law_41 : cL_law.data.toList.drop 1033 = dktL_law_41 := dk_seg dksL_law_40 23 rfl rfl
theorem dksL_law_42 : cL_law.data.toList.drop 1056 = dktL_law_42 := dk_seg dksL_law_41 23 rfl rfl
theorem dksL_law_43 : cL_law.data.toList.drop 1079 = dktL_law_43 := dk_seg dksL_law_42 23 rfl rfl
theorem dksL_law_44 : cL_law.data.toList.drop 1103 = dktL_law_44 := dk_seg dksL_law_43 24 rfl rfl
theorem dksL_law_45 : cL_law.data.toList.drop 1126 = dktL_law_45 := dk_seg dksL_law_44 23 rfl rfl
theorem dksL_law_46 : cL_law.data.toList.drop 1150 = dktL_law_46 := dk_seg dksL_law_45 24 rfl rfl
theorem dksL_law_47 : cL_law.data.toList.drop 1173 = dktL_law_47 := dk_seg dksL_law_46 23 rfl rfl
theorem dksL_law_48 : cL_law.data.toList.drop 1197 = dktL_law_48 := dk_seg dksL_law_47 24 rfl rfl
theorem dksL_law_49 : cL_law.data.toList.drop 1220 = dktL_law_49 := dk_seg dksL_law_48 23 rfl rfl
theorem dksL_law_50 : cL_law.data.toList.drop 1244 = dktL_law_50 := dk_seg dksL_law_49 24 rfl rfl
theorem dksL_law_51 : cL_law.data.toList.drop 1267 = dktL_law_51 := dk_seg dksL_law_50 23 rfl rfl
theorem dksL_law_52 : cL_law.data.toList.drop 1291 = dktL_law_52 := dk_seg dksL_law_51 24 rfl rfl
theorem dksL_law_53 : cL_law.data.toList.drop 1313 = dktL_law_53 := dk_seg dksL_law_52 22 rfl rfl
theorem dksL_law_54 : cL_law.data.toList.drop 1335 = dktL_law_54 := dk_seg dksL_law_53 22 rfl rfl
theorem dksL_law_55 : cL_law.data.toList.drop 1358 = dktL_law_55 := dk_seg dksL_law_54 23 rfl rfl
theorem dksL_law_56 : cL_law.data.toList.drop 1382 = dktL_law_56 := dk_seg dksL_law_55 24 rfl rfl
theorem dksL_law_57 : cL_law.data.toList.drop 1405 = dktL_law_57 := dk_seg dksL_law_56 23 rfl rfl
theorem dL_law_0 : decode cL_law 0 = .ok (.new 8, 3) := dk_187 0 8 (dk_at dksL_law_0 0 rfl rfl)
theorem dL_law_3 : decode cL_law 3 = .ok (.dup, 1) := dk_89 (dk_at dksL_law_0 3 rfl rfl)
theorem dL_law_4 : decode cL_law 4 = .ok (.invokespecial 81, 3) := dk_183 0 81 (dk_at dksL_law_0 4 rfl rfl)
theorem dL_law_7 : decode cL_law 7 = .ok (.astore_n 1, 1) := dk_76 (dk_at dksL_law_0 7 rfl rfl)
theorem dL_law_8 : decode cL_law 8 = .ok (.new 82, 3) := dk_187 0 82 (dk_at dksL_law_0 8 rfl rfl)
theorem dL_law_11 : decode cL_law 11 = .ok (.dup, 1) := dk_89 (dk_at dksL_law_0 11 rfl rfl)
theorem dL_law_12 : decode cL_law 12 = .ok (.invokespecial 84, 3) := dk_183 0 84 (dk_at dksL_law_0 12 rfl rfl)
theorem dL_law_15 : decode cL_law 15 = .ok (.astore_n 2, 1) := dk_77 (dk_at dksL_law_0 15 rfl rfl)
theorem dL_law_16 : decode cL_law 16 = .ok (.iconst 1, 1) := dk_4 (dk_at dksL_law_0 16 rfl rfl)
theorem dL_law_17 : decode cL_law 17 = .ok (.newarray .long, 2) := dk_188_11 (dk_at dksL_law_0 17 rfl rfl)
theorem dL_law_19 : decode cL_law 19 = .ok (.astore_n 3, 1) := dk_78 (dk_at dksL_law_0 19 rfl rfl)
theorem dL_law_20 : decode cL_law 20 = .ok (.iconst 0, 1) := dk_3 (dk_at dksL_law_0 20 rfl rfl)
theorem dL_law_21 : decode cL_law 21 = .ok (.istore 4, 2) := dk_54 4 (dk_at dksL_law_0 21 rfl rfl)
theorem dL_law_23 : decode cL_law 23 = .ok (.iload 4, 2) := dk_21 4 (dk_at dksL_law_1 0 rfl rfl)
theorem dL_law_25 : decode cL_law 25 = .ok (.aload_n 0, 1) := dk_42 (dk_at dksL_law_1 2 rfl rfl)
theorem dL_law_26 : decode cL_law 26 = .ok (.arraylength, 1) := dk_190 (dk_at dksL_law_1 3 rfl rfl)
theorem dL_law_27 : decode cL_law 27 = .ok (.iconst 3, 1) := dk_6 (dk_at dksL_law_1 4 rfl rfl)
theorem dL_law_28 : decode cL_law 28 = .ok (.isub, 1) := dk_100 (dk_at dksL_law_1 5 rfl rfl)
theorem dL_law_29 : decode cL_law 29 = .ok (.if_icmp .gt 1382, 3) := dk_163 5 102 (dk_at dksL_law_1 6 rfl rfl)
theorem dL_law_32 : decode cL_law 32 = .ok (.aload_n 0, 1) := dk_42 (dk_at dksL_law_1 9 rfl rfl)
theorem dL_law_33 : decode cL_law 33 = .ok (.iload 4, 2) := dk_21 4 (dk_at dksL_law_1 10 rfl rfl)
theorem dL_law_35 : decode cL_law 35 = .ok (.iaload, 1) := dk_46 (dk_at dksL_law_1 12 rfl rfl)
theorem dL_law_36 : decode cL_law 36 = .ok (.bipush 31, 2) := dk_16 31 (dk_at dksL_law_1 13 rfl rfl)
theorem dL_law_38 : decode cL_law 38 = .ok (.iand, 1) := dk_126 (dk_at dksL_law_1 15 rfl rfl)
theorem dL_law_39 : decode cL_law 39 = .ok (.tableswitch 1366 0 24 #[113, 157, 225, 281, 337, 381, 425, 481, 537, 593, 661, 729, 797, 865, 933, 989, 1002, 1058, 1114, 1170, 1226, 1282, 1295, 1308, 1352], 113) := by decide +kernel
theorem dL_law_152 : decode cL_law 152 = .ok (.aload_n 1, 1) := dk_43 (dk_at dksL_law_3 0 rfl rfl)
theorem dL_law_153 : decode cL_law 153 = .ok (.aload_n 3, 1) := dk_45 (dk_at dksL_law_3 1 rfl rfl)
theorem dL_law_154 : decode cL_law 154 = .ok (.invokestatic 85, 3) := dk_184 0 85 (dk_at dksL_law_3 2 rfl rfl)
theorem dL_law_157 : decode cL_law 157 = .ok (.istore 5, 2) := dk_54 5 (dk_at dksL_law_3 5 rfl rfl)
theorem dL_law_159 : decode cL_law 159 = .ok (.aload_n 2, 1) := dk_44 (dk_at dksL_law_3 7 rfl rfl)
theorem dL_law_160 : decode cL_law 160 = .ok (.invokevirtual 90, 3) := dk_182 0 90 (dk_at dksL_law_3 8 rfl rfl)
theorem dL_law_163 : decode cL_law 163 = .ok (.istore 6, 2) := dk_54 6 (dk_at dksL_law_3 11 rfl rfl)
theorem dL_law_165 : decode cL_law 165 = .ok (.aload_n 2, 1) := dk_44 (dk_at dksL_law_3 13 rfl rfl)
theorem dL_law_166 : decode cL_law 166 = .ok (.invokevirtual 91, 3) := dk_182 0 91 (dk_at dksL_law_3 14 rfl rfl)
theorem dL_law_169 : decode cL_law 169 = .ok (.iload 5, 2) := dk_21 5 (dk_at dksL_law_3 17 rfl rfl)
theorem dL_law_171 : decode cL_law 171 = .ok (.if_icmp .eq 5, 3) := dk_159 0 5 (dk_at dksL_law_3 19 rfl rfl)
theorem dL_law_174 : decode cL_law 174 = .ok (.iconst 0, 1) := dk_3 (dk_at dksL_law_3 22 rfl rfl)
theorem dL_law_175 : decode cL_law 175 = .ok (.ireturn, 1) := dk_172 (dk_at dksL_law_3 23 rfl rfl)
theorem dL_law_176 : decode cL_law 176 = .ok (.iload 5, 2) := dk_21 5 (dk_at dksL_law_4 0 rfl rfl)
theorem dL_law_178 : decode cL_law 178 = .ok (.ifCond .ne 15, 3) := dk_154 0 15 (dk_at dksL_law_4 2 rfl rfl)
theorem dL_law_181 : decode cL_law 181 = .ok (.aload_n 3, 1) := dk_45 (dk_at dksL_law_4 5 rfl rfl)
theorem dL_law_182 : decode cL_law 182 = .ok (.iconst 0, 1) := dk_3 (dk_at dksL_law_4 6 rfl rfl)
theorem dL_law_183 : decode cL_law 183 = .ok (.laload, 1) := dk_47 (dk_at dksL_law_4 7 rfl rfl)
theorem dL_law_184 : decode cL_law 184 = .ok (.iload 6, 2) := dk_21 6 (dk_at dksL_law_4 8 rfl rfl)
theorem dL_law_186 : decode cL_law 186 = .ok (.i2l, 1) := dk_133 (dk_at dksL_law_4 10 rfl rfl)
theorem dL_law_187 : decode cL_law 187 = .ok (.lcmp, 1) := dk_148 (dk_at dksL_law_4 11 rfl rfl)
theorem dL_law_188 : decode cL_law 188 = .ok (.ifCond .eq 5, 3) := dk_153 0 5 (dk_at dksL_law_4 12 rfl rfl)
theorem dL_law_191 : decode cL_law 191 = .ok (.iconst 0, 1) := dk_3 (dk_at dksL_law_4 15 rfl rfl)
theorem dL_law_192 : decode cL_law 192 = .ok (.ireturn, 1) := dk_172 (dk_at dksL_law_4 16 rfl rfl)
theorem dL_law_193 : decode cL_law 193 = .ok (.goto 1212, 3) := dk_167 4 188 (dk_at dksL_law_4 17 rfl rfl)
theorem dL_law_196 : decode cL_law 196 = .ok (.aload_n 1, 1) := dk_43 (dk_at dksL_law_4 20 rfl rfl)
theorem dL_law_197 : decode cL_law 197 = .ok (.aload_n 0, 1) := dk_42 (dk_at dksL_law_4 21 rfl rfl)
theorem dL_law_198 : decode cL_law 198 = .ok (.iload 4, 2) := dk_21 4 (dk_at dksL_law_4 22 rfl rfl)
theorem dL_law_200 : decode cL_law 200 = .ok (.iconst 1, 1) := dk_4 (dk_at dksL_law_5 0 rfl rfl)
theorem dL_law_201 : decode cL_law 201 = .ok (.iadd, 1) := dk_96 (dk_at dksL_law_5 1 rfl rfl)
theorem dL_law_202 : decode cL_law 202 = .ok (.iaload, 1) := dk_46 (dk_at dksL_law_5 2 rfl rfl)
theorem dL_law_203 : decode cL_law 203 = .ok (.aload_n 0, 1) := dk_42 (dk_at dksL_law_5 3 rfl rfl)
theorem dL_law_204 : decode cL_law 204 = .ok (.iload 4, 2) := dk_21 4 (dk_at dksL_law_5 4 rfl rfl)
theorem dL_law_206 : decode cL_law 206 = .ok (.iconst 2, 1) := dk_5 (dk_at dksL_law_5 6 rfl rfl)
theorem dL_law_207 : decode cL_law 207 = .ok (.iadd, 1) := dk_96 (dk_at dksL_law_5 7 rfl rfl)
theorem dL_law_208 : decode cL_law 208 = .ok (.iaload, 1) := dk_46 (dk_at dksL_law_5 8 rfl rfl)
theorem dL_law_209 : decode cL_law 209 = .ok (.aload_n 3, 1) := dk_45 (dk_at dksL_law_5 9 rfl rfl)
theorem dL_law_210 : decode cL_law 210 = .ok (.invokestatic 94, 3) := dk_184 0 94 (dk_at dksL_law_5 10 rfl rfl)
theorem dL_law_213 : decode cL_law 213 = .ok (.istore 5, 2) := dk_54 5 (dk_at dksL_law_5 13 rfl rfl)
theorem dL_law_215 : decode cL_law 215 = .ok (.aload_n 2, 1) := dk_44 (dk_at dksL_law_5 15 rfl rfl)
theorem dL_law_216 : decode cL_law 216 = .ok (.aload_n 0, 1) := dk_42 (dk_at dksL_law_5 16 rfl rfl)
theorem dL_law_217 : decode cL_law 217 = .ok (.iload 4, 2) := dk_21 4 (dk_at dksL_law_5 17 rfl rfl)
theorem dL_law_219 : decode cL_law 219 = .ok (.iconst 1, 1) := dk_4 (dk_at dksL_law_5 19 rfl rfl)
theorem dL_law_220 : decode cL_law 220 = .ok (.iadd, 1) := dk_96 (dk_at dksL_law_5 20 rfl rfl)
theorem dL_law_221 : decode cL_law 221 = .ok (.iaload, 1) := dk_46 (dk_at dksL_law_5 21 rfl rfl)
theorem dL_law_222 : decode cL_law 222 = .ok (.aload_n 0, 1) := dk_42 (dk_at dksL_law_5 22 rfl rfl)
theorem dL_law_223 : decode cL_law 223 = .ok (.iload 4, 2) := dk_21 4 (dk_at dksL_law_6 0 rfl rfl)
theorem dL_law_225 : decode cL_law 225 = .ok (.iconst 2, 1) := dk_5 (dk_at dksL_law_6 2 rfl rfl)
theorem dL_law_226 : decode cL_law 226 = .ok (.iadd, 1) := dk_96 (dk_at dksL_law_6 3 rfl rfl)
theorem dL_law_227 : decode cL_law 227 = .ok (.iaload, 1) := dk_46 (dk_at dksL_law_6 4 rfl rfl)
theorem dL_law_228 : decode cL_law 228 = .ok (.invokevirtual 97, 3) := dk_182 0 97 (dk_at dksL_law_6 5 rfl rfl)
theorem dL_law_231 : decode cL_law 231 = .ok (.istore 6, 2) := dk_54 6 (dk_at dksL_law_6 8 rfl rfl)
theorem dL_law_233 : decode cL_law 233 = .ok (.aload_n 2, 1) := dk_44 (dk_at dksL_law_6 10 rfl rfl)
theorem dL_law_234 : decode cL_law 234 = .ok (.invokevirtual 91, 3) := dk_182 0 91 (dk_at dksL_law_6 11 rfl rfl)
theorem dL_law_237 : decode cL_law 237 = .ok (.iload 5, 2) := dk_21 5 (dk_at dksL_law_6 14 rfl rfl)
theorem dL_law_239 : decode cL_law 239 = .ok (.if_icmp .eq 5, 3) := dk_159 0 5 (dk_at dksL_law_6 16 rfl rfl)
theorem dL_law_242 : decode cL_law 242 = .ok (.iconst 0, 1) := dk_3 (dk_at dksL_law_6 19 rfl rfl)
theorem dL_law_243 : decode cL_law 243 = .ok (.ireturn, 1) := dk_172 (dk_at dksL_law_6 20 rfl rfl)
theorem dL_law_244 : decode cL_law 244 = .ok (.iload 5, 2) := dk_21 5 (dk_at dksL_law_6 21 rfl rfl)
theorem dL_law_246 : decode cL_law 246 = .ok (.ifCond .ne 15, 3) := dk_154 0 15 (dk_at dksL_law_7 0 rfl rfl)
theorem dL_law_249 : decode cL_law 249 = .ok (.aload_n 3, 1) := dk_45 (dk_at dksL_law_7 3 rfl rfl)
theorem dL_law_250 : decode cL_law 250 = .ok (.iconst 0, 1) := dk_3 (dk_at dksL_law_7 4 rfl rfl)
theorem dL_law_251 : decode cL_law 251 = .ok (.laload, 1) := dk_47 (dk_at dksL_law_7 5 rfl rfl)
theorem dL_law_252 : decode cL_law 252 = .ok (.iload 6, 2) := dk_21 6 (dk_at dksL_law_7 6 rfl rfl)
theorem dL_law_254 : decode cL_law 254 = .ok (.i2l, 1) := dk_133 (dk_at dksL_law_7 8 rfl rfl)
theorem dL_law_255 : decode cL_law 255 = .ok (.lcmp, 1) := dk_148 (dk_at dksL_law_7 9 rfl rfl)
theorem dL_law_256 : decode cL_law 256 = .ok (.ifCond .eq 5, 3) := dk_153 0 5 (dk_at dksL_law_7 10 rfl rfl)
theorem dL_law_259 : decode cL_law 259 = .ok (.iconst 0, 1) := dk_3 (dk_at dksL_law_7 13 rfl rfl)
theorem dL_law_260 : decode cL_law 260 = .ok (.ireturn, 1) := dk_172 (dk_at dksL_law_7 14 rfl rfl)
theorem dL_law_261 : decode cL_law 261 = .ok (.goto 1144, 3) := dk_167 4 120 (dk_at dksL_law_7 15 rfl rfl)
theorem dL_law_264 : decode cL_law 264 = .ok (.aload_n 1, 1) := dk_43 (dk_at dksL_law_7 18 rfl rfl)
theorem dL_law_265 : decode cL_law 265 = .ok (.aload_n 0, 1) := dk_42 (dk_at dksL_law_7 19 rfl rfl)
theorem dL_law_266 : decode cL_law 266 = .ok (.iload 4, 2) := dk_21 4 (dk_at dksL_law_7 20 rfl rfl)
theorem dL_law_268 : decode cL_law 268 = .ok (.iconst 1, 1) := dk_4 (dk_at dksL_law_7 22 rfl rfl)
theorem dL_law_269 : decode cL_law 269 = .ok (.iadd, 1) := dk_96 (dk_at dksL_law_7 23 rfl rfl)
theorem dL_law_270 : decode cL_law 270 = .ok (.iaload, 1) := dk_46 (dk_at dksL_law_8 0 rfl rfl)
theorem dL_law_271 : decode cL_law 271 = .ok (.aload_n 3, 1) := dk_45 (dk_at dksL_law_8 1 rfl rfl)
theorem dL_law_272 : decode cL_law 272 = .ok (.invokestatic 98, 3) := dk_184 0 98 (dk_at dksL_law_8 2 rfl rfl)
theorem dL_law_275 : decode cL_law 275 = .ok (.istore 5, 2) := dk_54 5 (dk_at dksL_law_8 5 rfl rfl)
theorem dL_law_277 : decode cL_law 277 = .ok (.aload_n 2, 1) := dk_44 (dk_at dksL_law_8 7 rfl rfl)
theorem dL_law_278 : decode cL_law 278 = .ok (.aload_n 0, 1) := dk_42 (dk_at dksL_law_8 8 rfl rfl)
theorem dL_law_279 : decode cL_law 279 = .ok (.iload 4, 2) := dk_21 4 (dk_at dksL_law_8 9 rfl rfl)
theorem dL_law_281 : decode cL_law 281 = .ok (.iconst 1, 1) := dk_4 (dk_at dksL_law_8 11 rfl rfl)
theorem dL_law_282 : decode cL_law 282 = .ok (.iadd, 1) := dk_96 (dk_at dksL_law_8 12 rfl rfl)
theorem dL_law_283 : decode cL_law 283 = .ok (.iaload, 1) := dk_46 (dk_at dksL_law_8 13 rfl rfl)
theorem dL_law_284 : decode cL_law 284 = .ok (.invokevirtual 101, 3) := dk_182 0 101 (dk_at dksL_law_8 14 rfl rfl)
theorem dL_law_287 : decode cL_law 287 = .ok (.istore 6, 2) := dk_54 6 (dk_at dksL_law_8 17 rfl rfl)
theorem dL_law_289 : decode cL_law 289 = .ok (.aload_n 2, 1) := dk_44 (dk_at dksL_law_8 19 rfl rfl)
theorem dL_law_290 : decode cL_law 290 = .ok (.invokevirtual 91, 3) := dk_182 0 91 (dk_at dksL_law_8 20 rfl rfl)
theorem dL_law_293 : decode cL_law 293 = .ok (.iload 5, 2) := dk_21 5 (dk_at dksL_law_9 0 rfl rfl)
theorem dL_law_295 : decode cL_law 295 = .ok (.if_icmp .eq 5, 3) := dk_159 0 5 (dk_at dksL_law_9 2 rfl rfl)
theorem dL_law_298 : decode cL_law 298 = .ok (.iconst 0, 1) := dk_3 (dk_at dksL_law_9 5 rfl rfl)
theorem dL_law_299 : decode cL_law 299 = .ok (.ireturn, 1) := dk_172 (dk_at dksL_law_9 6 rfl rfl)
theorem dL_law_300 : decode cL_law 300 = .ok (.iload 5, 2) := dk_21 5 (dk_at dksL_law_9 7 rfl rfl)
theorem dL_law_302 : decode cL_law 302 = .ok (.ifCond .ne 15, 3) := dk_154 0 15 (dk_at dksL_law_9 9 rfl rfl)
theorem dL_law_305 : decode cL_law 305 = .ok (.aload_n 3, 1) := dk_45 (dk_at dksL_law_9 12 rfl rfl)
theorem dL_law_306 : decode cL_law 306 = .ok (.iconst 0, 1) := dk_3 (dk_at dksL_law_9 13 rfl rfl)
theorem dL_law_307 : decode cL_law 307 = .ok (.laload, 1) := dk_47 (dk_at dksL_law_9 14 rfl rfl)
theorem dL_law_308 : decode cL_law 308 = .ok (.iload 6, 2) := dk_21 6 (dk_at dksL_law_9 15 rfl rfl)
theorem dL_law_310 : decode cL_law 310 = .ok (.i2l, 1) := dk_133 (dk_at dksL_law_9 17 rfl rfl)
theorem dL_law_311 : decode cL_law 311 = .ok (.lcmp, 1) := dk_148 (dk_at dksL_law_9 18 rfl rfl)
theorem dL_law_312 : decode cL_law 312 = .ok (.ifCond .eq 5, 3) := dk_153 0 5 (dk_at dksL_law_9 19 rfl rfl)
theorem dL_law_315 : decode cL_law 315 = .ok (.iconst 0, 1) := dk_3 (dk_at dksL_law_9 22 rfl rfl)
theorem dL_law_316 : decode cL_law 316 = .ok (.ireturn, 1) := dk_172 (dk_at dksL_law_9 23 rfl rfl)
theorem dL_law_317 : decode cL_law 317 = .ok (.goto 1088, 3) := dk_167 4 64 (dk_at dksL_law_10 0 rfl rfl)
theorem dL_law_320 : decode cL_law 320 = .ok (.aload_n 1, 1) := dk_43 (dk_at dksL_law_10 3 rfl rfl)
theorem dL_law_321 : decode cL_law 321 = .ok (.aload_n 0, 1) := dk_42 (dk_at dksL_law_10 4 rfl rfl)
theorem dL_law_322 : decode cL_law 322 = .ok (.iload 4, 2) := dk_21 4 (dk_at dksL_law_10 5 rfl rfl)
theorem dL_law_324 : decode cL_law 324 = .ok (.iconst 1, 1) := dk_4 (dk_at dksL_law_10 7 rfl rfl)
theorem dL_law_325 : decode cL_law 325 = .ok (.iadd, 1) := dk_96 (dk_at dksL_law_10 8 rfl rfl)
theorem dL_law_326 : decode cL_law 326 = .ok (.iaload, 1) := dk_46 (dk_at dksL_law_10 9 rfl rfl)
theorem dL_law_327 : decode cL_law 327 = .ok (.aload_n 3, 1) := dk_45 (dk_at dksL_law_10 10 rfl rfl)
theorem dL_law_328 : decode cL_law 328 = .ok (.invokestatic 102, 3) := dk_184 0 102 (dk_at dksL_law_10 11 rfl rfl)
theorem dL_law_331 : decode cL_law 331 = .ok (.istore 5, 2) := dk_54 5 (dk_at dksL_law_10 14 rfl rfl)
theorem dL_law_333 : decode cL_law 333 = .ok (.aload_n 2, 1) := dk_44 (dk_at dksL_law_10 16 rfl rfl)
theorem dL_law_334 : decode cL_law 334 = .ok (.aload_n 0, 1) := dk_42 (dk_at dksL_law_10 17 rfl rfl)
theorem dL_law_335 : decode cL_law 335 = .ok (.iload 4, 2) := dk_21 4 (dk_at dksL_law_10 18 rfl rfl)
theorem dL_law_337 : decode cL_law 337 = .ok (.iconst 1, 1) := dk_4 (dk_at dksL_law_10 20 rfl rfl)
theorem dL_law_338 : decode cL_law 338 = .ok (.iadd, 1) := dk_96 (dk_at dksL_law_10 21 rfl rfl)
theorem dL_law_339 : decode cL_law 339 = .ok (.iaload, 1) := dk_46 (dk_at dksL_law_10 22 rfl rfl)
theorem dL_law_340 : decode cL_law 340 = .ok (.invokevirtual 104, 3) := dk_182 0 104 (dk_at dksL_law_11 0 rfl rfl)
theorem dL_law_343 : decode cL_law 343 = .ok (.istore 6, 2) := dk_54 6 (dk_at dksL_law_11 3 rfl rfl)
theorem dL_law_345 : decode cL_law 345 = .ok (.aload_n 2, 1) := dk_44 (dk_at dksL_law_11 5 rfl rfl)
theorem dL_law_346 : decode cL_law 346 = .ok (.invokevirtual 91, 3) := dk_182 0 91 (dk_at dksL_law_11 6 rfl rfl)
theorem dL_law_349 : decode cL_law 349 = .ok (.iload 5, 2) := dk_21 5 (dk_at dksL_law_11 9 rfl rfl)
theorem dL_law_351 : decode cL_law 351 = .ok (.if_icmp .eq 5, 3) := dk_159 0 5 (dk_at dksL_law_11 11 rfl rfl)
theorem dL_law_354 : decode cL_law 354 = .ok (.iconst 0, 1) := dk_3 (dk_at dksL_law_11 14 rfl rfl)
theorem dL_law_355 : decode cL_law 355 = .ok (.ireturn, 1) := dk_172 (dk_at dksL_law_11 15 rfl rfl)
theorem dL_law_356 : decode cL_law 356 = .ok (.iload 5, 2) := dk_21 5 (dk_at dksL_law_11 16 rfl rfl)
theorem dL_law_358 : decode cL_law 358 = .ok (.ifCond .ne 15, 3) := dk_154 0 15 (dk_at dksL_law_11 18 rfl rfl)
theorem dL_law_361 : decode cL_law 361 = .ok (.aload_n 3, 1) := dk_45 (dk_at dksL_law_11 21 rfl rfl)
theorem dL_law_362 : decode cL_law 362 = .ok (.iconst 0, 1) := dk_3 (dk_at dksL_law_11 22 rfl rfl)
theorem dL_law_363 : decode cL_law 363 = .ok (.laload, 1) := dk_47 (dk_at dksL_law_11 23 rfl rfl)
theorem dL_law_364 : decode cL_law 364 = .ok (.iload 6, 2) := dk_21 6 (dk_at dksL_law_12 0 rfl rfl)
theorem dL_law_366 : decode cL_law 366 = .ok (.i2l, 1) := dk_133 (dk_at dksL_law_12 2 rfl rfl)
theorem dL_law_367 : decode cL_law 367 = .ok (.lcmp, 1) := dk_148 (dk_at dksL_law_12 3 rfl rfl)
theorem dL_law_368 : decode cL_law 368 = .ok (.ifCond .eq 5, 3) := dk_153 0 5 (dk_at dksL_law_12 4 rfl rfl)
theorem dL_law_371 : decode cL_law 371 = .ok (.iconst 0, 1) := dk_3 (dk_at dksL_law_12 7 rfl rfl)
theorem dL_law_372 : decode cL_law 372 = .ok (.ireturn, 1) := dk_172 (dk_at dksL_law_12 8 rfl rfl)
theorem dL_law_373 : decode cL_law 373 = .ok (.goto 1032, 3) := dk_167 4 8 (dk_at dksL_law_12 9 rfl rfl)
theorem dL_law_376 : decode cL_law 376 = .ok (.aload_n 1, 1) := dk_43 (dk_at dksL_law_12 12 rfl rfl)
theorem dL_law_377 : decode cL_law 377 = .ok (.aload_n 3, 1) := dk_45 (dk_at dksL_law_12 13 rfl rfl)
theorem dL_law_378 : decode cL_law 378 = .ok (.invokestatic 105, 3) := dk_184 0 105 (dk_at dksL_law_12 14 rfl rfl)
theorem dL_law_381 : decode cL_law 381 = .ok (.istore 5, 2) := dk_54 5 (dk_at dksL_law_12 17 rfl rfl)
theorem dL_law_383 : decode cL_law 383 = .ok (.aload_n 2, 1) := dk_44 (dk_at dksL_law_12 19 rfl rfl)
theorem dL_law_384 : decode cL_law 384 = .ok (.invokevirtual 107, 3) := dk_182 0 107 (dk_at dksL_law_12 20 rfl rfl)
theorem dL_law_387 : decode cL_law 387 = .ok (.istore 6, 2) := dk_54 6 (dk_at dksL_law_13 0 rfl rfl)
theorem dL_law_389 : decode cL_law 389 = .ok (.aload_n 2, 1) := dk_44 (dk_at dksL_law_13 2 rfl rfl)
theorem dL_law_390 : decode cL_law 390 = .ok (.invokevirtual 91, 3) := dk_182 0 91 (dk_at dksL_law_13 3 rfl rfl)
theorem dL_law_393 : decode cL_law 393 = .ok (.iload 5, 2) := dk_21 5 (dk_at dksL_law_13 6 rfl rfl)
theorem dL_law_395 : decode cL_law 395 = .ok (.if_icmp .eq 5, 3) := dk_159 0 5 (dk_at dksL_law_13 8 rfl rfl)
theorem dL_law_398 : decode cL_law 398 = .ok (.iconst 0, 1) := dk_3 (dk_at dksL_law_13 11 rfl rfl)
theorem dL_law_399 : decode cL_law 399 = .ok (.ireturn, 1) := dk_172 (dk_at dksL_law_13 12 rfl rfl)
theorem dL_law_400 : decode cL_law 400 = .ok (.iload 5, 2) := dk_21 5 (dk_at dksL_law_13 13 rfl rfl)
theorem dL_law_402 : decode cL_law 402 = .ok (.ifCond .ne 15, 3) := dk_154 0 15 (dk_at dksL_law_13 15 rfl rfl)
theorem dL_law_405 : decode cL_law 405 = .ok (.aload_n 3, 1) := dk_45 (dk_at dksL_law_13 18 rfl rfl)
theorem dL_law_406 : decode cL_law 406 = .ok (.iconst 0, 1) := dk_3 (dk_at dksL_law_13 19 rfl rfl)
theorem dL_law_407 : decode cL_law 407 = .ok (.laload, 1) := dk_47 (dk_at dksL_law_13 20 rfl rfl)
theorem dL_law_408 : decode cL_law 408 = .ok (.iload 6, 2) := dk_21 6 (dk_at dksL_law_13 21 rfl rfl)
theorem dL_law_410 : decode cL_law 410 = .ok (.i2l, 1) := dk_133 (dk_at dksL_law_13 23 rfl rfl)
theorem dL_law_411 : decode cL_law 411 = .ok (.lcmp, 1) := dk_148 (dk_at dksL_law_14 0 rfl rfl)
theorem dL_law_412 : decode cL_law 412 = .ok (.ifCond .eq 5, 3) := dk_153 0 5 (dk_at dksL_law_14 1 rfl rfl)
theorem dL_law_415 : decode cL_law 415 = .ok (.iconst 0, 1) := dk_3 (dk_at dksL_law_14 4 rfl rfl)
theorem dL_law_416 : decode cL_law 416 = .ok (.ireturn, 1) := dk_172 (dk_at dksL_law_14 5 rfl rfl)
theorem dL_law_417 : decode cL_law 417 = .ok (.goto 988, 3) := dk_167 3 220 (dk_at dksL_law_14 6 rfl rfl)
theorem dL_law_420 : decode cL_law 420 = .ok (.aload_n 1, 1) := dk_43 (dk_at dksL_law_14 9 rfl rfl)
theorem dL_law_421 : decode cL_law 421 = .ok (.aload_n 3, 1) := dk_45 (dk_at dksL_law_14 10 rfl rfl)
theorem dL_law_422 : decode cL_law 422 = .ok (.invokestatic 108, 3) := dk_184 0 108 (dk_at dksL_law_14 11 rfl rfl)
theorem dL_law_425 : decode cL_law 425 = .ok (.istore 5, 2) := dk_54 5 (dk_at dksL_law_14 14 rfl rfl)
theorem dL_law_427 : decode cL_law 427 = .ok (.aload_n 2, 1) := dk_44 (dk_at dksL_law_14 16 rfl rfl)
theorem dL_law_428 : decode cL_law 428 = .ok (.invokevirtual 110, 3) := dk_182 0 110 (dk_at dksL_law_14 17 rfl rfl)
theorem dL_law_431 : decode cL_law 431 = .ok (.istore 6, 2) := dk_54 6 (dk_at dksL_law_14 20 rfl rfl)
theorem dL_law_433 : decode cL_law 433 = .ok (.aload_n 2, 1) := dk_44 (dk_at dksL_law_14 22 rfl rfl)
theorem dL_law_434 : decode cL_law 434 = .ok (.invokevirtual 91, 3) := dk_182 0 91 (dk_at dksL_law_15 0 rfl rfl)
theorem dL_law_437 : decode cL_law 437 = .ok (.iload 5, 2) := dk_21 5 (dk_at dksL_law_15 3 rfl rfl)
theorem dL_law_439 : decode cL_law 439 = .ok (.if_icmp .eq 5, 3) := dk_159 0 5 (dk_at dksL_law_15 5 rfl rfl)
theorem dL_law_442 : decode cL_law 442 = .ok (.iconst 0, 1) := dk_3 (dk_at dksL_law_15 8 rfl rfl)
theorem dL_law_443 : decode cL_law 443 = .ok (.ireturn, 1) := dk_172 (dk_at dksL_law_15 9 rfl rfl)
theorem dL_law_444 : decode cL_law 444 = .ok (.iload 5, 2) := dk_21 5 (dk_at dksL_law_15 10 rfl rfl)
theorem dL_law_446 : decode cL_law 446 = .ok (.ifCond .ne 15, 3) := dk_154 0 15 (dk_at dksL_law_15 12 rfl rfl)
theorem dL_law_449 : decode cL_law 449 = .ok (.aload_n 3, 1) := dk_45 (dk_at dksL_law_15 15 rfl rfl)
theorem dL_law_450 : decode cL_law 450 = .ok (.iconst 0, 1) := dk_3 (dk_at dksL_law_15 16 rfl rfl)
theorem dL_law_451 : decode cL_law 451 = .ok (.laload, 1) := dk_47 (dk_at dksL_law_15 17 rfl rfl)
theorem dL_law_452 : decode cL_law 452 = .ok (.iload 6, 2) := dk_21 6 (dk_at dksL_law_15 18 rfl rfl)
theorem dL_law_454 : decode cL_law 454 = .ok (.i2l, 1) := dk_133 (dk_at dksL_law_15 20 rfl rfl)
theorem dL_law_455 : decode cL_law 455 = .ok (.lcmp, 1) := dk_148 (dk_at dksL_law_15 21 rfl rfl)
theorem dL_law_456 : decode cL_law 456 = .ok (.ifCond .eq 5, 3) := dk_153 0 5 (dk_at dksL_law_16 0 rfl rfl)
theorem dL_law_459 : decode cL_law 459 = .ok (.iconst 0, 1) := dk_3 (dk_at dksL_law_16 3 rfl rfl)
theorem dL_law_460 : decode cL_law 460 = .ok (.ireturn, 1) := dk_172 (dk_at dksL_law_16 4 rfl rfl)
theorem dL_law_461 : decode cL_law 461 = .ok (.goto 944, 3) := dk_167 3 176 (dk_at dksL_law_16 5 rfl rfl)
theorem dL_law_464 : decode cL_law 464 = .ok (.aload_n 1, 1) := dk_43 (dk_at dksL_law_16 8 rfl rfl)
theorem dL_law_465 : decode cL_law 465 = .ok (.aload_n 0, 1) := dk_42 (dk_at dksL_law_16 9 rfl rfl)
theorem dL_law_466 : decode cL_law 466 = .ok (.iload 4, 2) := dk_21 4 (dk_at dksL_law_16 10 rfl rfl)
theorem dL_law_468 : decode cL_law 468 = .ok (.iconst 1, 1) := dk_4 (dk_at dksL_law_16 12 rfl rfl)
theorem dL_law_469 : decode cL_law 469 = .ok (.iadd, 1) := dk_96 (dk_at dksL_law_16 13 rfl rfl)
theorem dL_law_470 : decode cL_law 470 = .ok (.iaload, 1) := dk_46 (dk_at dksL_law_16 14 rfl rfl)
theorem dL_law_471 : decode cL_law 471 = .ok (.aload_n 3, 1) := dk_45 (dk_at dksL_law_16 15 rfl rfl)
theorem dL_law_472 : decode cL_law 472 = .ok (.invokestatic 111, 3) := dk_184 0 111 (dk_at dksL_law_16 16 rfl rfl)
theorem dL_law_475 : decode cL_law 475 = .ok (.istore 5, 2) := dk_54 5 (dk_at dksL_law_16 19 rfl rfl)
theorem dL_law_477 : decode cL_law 477 = .ok (.aload_n 2, 1) := dk_44 (dk_at dksL_law_16 21 rfl rfl)
theorem dL_law_478 : decode cL_law 478 = .ok (.aload_n 0, 1) := dk_42 (dk_at dksL_law_16 22 rfl rfl)
theorem dL_law_479 : decode cL_law 479 = .ok (.iload 4, 2) := dk_21 4 (dk_at dksL_law_17 0 rfl rfl)
theorem dL_law_481 : decode cL_law 481 = .ok (.iconst 1, 1) := dk_4 (dk_at dksL_law_17 2 rfl rfl)
theorem dL_law_482 : decode cL_law 482 = .ok (.iadd, 1) := dk_96 (dk_at dksL_law_17 3 rfl rfl)
theorem dL_law_483 : decode cL_law 483 = .ok (.iaload, 1) := dk_46 (dk_at dksL_law_17 4 rfl rfl)
theorem dL_law_484 : decode cL_law 484 = .ok (.invokevirtual 113, 3) := dk_182 0 113 (dk_at dksL_law_17 5 rfl rfl)
theorem dL_law_487 : decode cL_law 487 = .ok (.istore 6, 2) := dk_54 6 (dk_at dksL_law_17 8 rfl rfl)
theorem dL_law_489 : decode cL_law 489 = .ok (.aload_n 2, 1) := dk_44 (dk_at dksL_law_17 10 rfl rfl)
theorem dL_law_490 : decode cL_law 490 = .ok (.invokevirtual 91, 3) := dk_182 0 91 (dk_at dksL_law_17 11 rfl rfl)
theorem dL_law_493 : decode cL_law 493 = .ok (.iload 5, 2) := dk_21 5 (dk_at dksL_law_17 14 rfl rfl)
theorem dL_law_495 : decode cL_law 495 = .ok (.if_icmp .eq 5, 3) := dk_159 0 5 (dk_at dksL_law_17 16 rfl rfl)
theorem dL_law_498 : decode cL_law 498 = .ok (.iconst 0, 1) := dk_3 (dk_at dksL_law_17 19 rfl rfl)
theorem dL_law_499 : decode cL_law 499 = .ok (.ireturn, 1) := dk_172 (dk_at dksL_law_17 20 rfl rfl)
theorem dL_law_500 : decode cL_law 500 = .ok (.iload 5, 2) := dk_21 5 (dk_at dksL_law_17 21 rfl rfl)
theorem dL_law_502 : decode cL_law 502 = .ok (.ifCond .ne 15, 3) := dk_154 0 15 (dk_at dksL_law_18 0 rfl rfl)
theorem dL_law_505 : decode cL_law 505 = .ok (.aload_n 3, 1) := dk_45 (dk_at dksL_law_18 3 rfl rfl)
theorem dL_law_506 : decode cL_law 506 = .ok (.iconst 0, 1) := dk_3 (dk_at dksL_law_18 4 rfl rfl)
theorem dL_law_507 : decode cL_law 507 = .ok (.laload, 1) := dk_47 (dk_at dksL_law_18 5 rfl rfl)
theorem dL_law_508 : decode cL_law 508 = .ok (.iload 6, 2) := dk_21 6 (dk_at dksL_law_18 6 rfl rfl)
theorem dL_law_510 : decode cL_law 510 = .ok (.i2l, 1) := dk_133 (dk_at dksL_law_18 8 rfl rfl)
theorem dL_law_511 : decode cL_law 511 = .ok (.lcmp, 1) := dk_148 (dk_at dksL_law_18 9 rfl rfl)
theorem dL_law_512 : decode cL_law 512 = .ok (.ifCond .eq 5, 3) := dk_153 0 5 (dk_at dksL_law_18 10 rfl rfl)
theorem dL_law_515 : decode cL_law 515 = .ok (.iconst 0, 1) := dk_3 (dk_at dksL_law_18 13 rfl rfl)
theorem dL_law_516 : decode cL_law 516 = .ok (.ireturn, 1) := dk_172 (dk_at dksL_law_18 14 rfl rfl)
theorem dL_law_517 : decode cL_law 517 = .ok (.goto 888, 3) := dk_167 3 120 (dk_at dksL_law_18 15 rfl rfl)
theorem dL_law_520 : decode cL_law 520 = .ok (.aload_n 1, 1) := dk_43 (dk_at dksL_law_18 18 rfl rfl)
theorem dL_law_521 : decode cL_law 521 = .ok (.aload_n 0, 1) := dk_42 (dk_at dksL_law_18 19 rfl rfl)
theorem dL_law_522 : decode cL_law 522 = .ok (.iload 4, 2) := dk_21 4 (dk_at dksL_law_18 20 rfl rfl)
theorem dL_law_524 : decode cL_law 524 = .ok (.iconst 1, 1) := dk_4 (dk_at dksL_law_18 22 rfl rfl)
theorem dL_law_525 : decode cL_law 525 = .ok (.iadd, 1) := dk_96 (dk_at dksL_law_18 23 rfl rfl)
theorem dL_law_526 : decode cL_law 526 = .ok (.iaload, 1) := dk_46 (dk_at dksL_law_19 0 rfl rfl)
theorem dL_law_527 : decode cL_law 527 = .ok (.aload_n 3, 1) := dk_45 (dk_at dksL_law_19 1 rfl rfl)
theorem dL_law_528 : decode cL_law 528 = .ok (.invokestatic 114, 3) := dk_184 0 114 (dk_at dksL_law_19 2 rfl rfl)
theorem dL_law_531 : decode cL_law 531 = .ok (.istore 5, 2) := dk_54 5 (dk_at dksL_law_19 5 rfl rfl)
theorem dL_law_533 : decode cL_law 533 = .ok (.aload_n 2, 1) := dk_44 (dk_at dksL_law_19 7 rfl rfl)
theorem dL_law_534 : decode cL_law 534 = .ok (.aload_n 0, 1) := dk_42 (dk_at dksL_law_19 8 rfl rfl)
theorem dL_law_535 : decode cL_law 535 = .ok (.iload 4, 2) := dk_21 4 (dk_at dksL_law_19 9 rfl rfl)
theorem dL_law_537 : decode cL_law 537 = .ok (.iconst 1, 1) := dk_4 (dk_at dksL_law_19 11 rfl rfl)
theorem dL_law_538 : decode cL_law 538 = .ok (.iadd, 1) := dk_96 (dk_at dksL_law_19 12 rfl rfl)
theorem dL_law_539 : decode cL_law 539 = .ok (.iaload, 1) := dk_46 (dk_at dksL_law_19 13 rfl rfl)
theorem dL_law_540 : decode cL_law 540 = .ok (.invokevirtual 116, 3) := dk_182 0 116 (dk_at dksL_law_19 14 rfl rfl)
theorem dL_law_543 : decode cL_law 543 = .ok (.istore 6, 2) := dk_54 6 (dk_at dksL_law_19 17 rfl rfl)
theorem dL_law_545 : decode cL_law 545 = .ok (.aload_n 2, 1) := dk_44 (dk_at dksL_law_19 19 rfl rfl)
theorem dL_law_546 : decode cL_law 546 = .ok (.invokevirtual 91, 3) := dk_182 0 91 (dk_at dksL_law_19 20 rfl rfl)
theorem dL_law_549 : decode cL_law 549 = .ok (.iload 5, 2) := dk_21 5 (dk_at dksL_law_20 0 rfl rfl)
theorem dL_law_551 : decode cL_law 551 = .ok (.if_icmp .eq 5, 3) := dk_159 0 5 (dk_at dksL_law_20 2 rfl rfl)
theorem dL_law_554 : decode cL_law 554 = .ok (.iconst 0, 1) := dk_3 (dk_at dksL_law_20 5 rfl rfl)
theorem dL_law_555 : decode cL_law 555 = .ok (.ireturn, 1) := dk_172 (dk_at dksL_law_20 6 rfl rfl)
theorem dL_law_556 : decode cL_law 556 = .ok (.iload 5, 2) := dk_21 5 (dk_at dksL_law_20 7 rfl rfl)
theorem dL_law_558 : decode cL_law 558 = .ok (.ifCond .ne 15, 3) := dk_154 0 15 (dk_at dksL_law_20 9 rfl rfl)
theorem dL_law_561 : decode cL_law 561 = .ok (.aload_n 3, 1) := dk_45 (dk_at dksL_law_20 12 rfl rfl)
theorem dL_law_562 : decode cL_law 562 = .ok (.iconst 0, 1) := dk_3 (dk_at dksL_law_20 13 rfl rfl)
theorem dL_law_563 : decode cL_law 563 = .ok (.laload, 1) := dk_47 (dk_at dksL_law_20 14 rfl rfl)
theorem dL_law_564 : decode cL_law 564 = .ok (.iload 6, 2) := dk_21 6 (dk_at dksL_law_20 15 rfl rfl)
theorem dL_law_566 : decode cL_law 566 = .ok (.i2l, 1) := dk_133 (dk_at dksL_law_20 17 rfl rfl)
theorem dL_law_567 : decode cL_law 567 = .ok (.lcmp, 1) := dk_148 (dk_at dksL_law_20 18 rfl rfl)
theorem dL_law_568 : decode cL_law 568 = .ok (.ifCond .eq 5, 3) := dk_153 0 5 (dk_at dksL_law_20 19 rfl rfl)
theorem dL_law_571 : decode cL_law 571 = .ok (.iconst 0, 1) := dk_3 (dk_at dksL_law_20 22 rfl rfl)
theorem dL_law_572 : decode cL_law 572 = .ok (.ireturn, 1) := dk_172 (dk_at dksL_law_20 23 rfl rfl)
theorem dL_law_573 : decode cL_law 573 = .ok (.goto 832, 3) := dk_167 3 64 (dk_at dksL_law_21 0 rfl rfl)
theorem dL_law_576 : decode cL_law 576 = .ok (.aload_n 1, 1) := dk_43 (dk_at dksL_law_21 3 rfl rfl)
theorem dL_law_577 : decode cL_law 577 = .ok (.aload_n 0, 1) := dk_42 (dk_at dksL_law_21 4 rfl rfl)
theorem dL_law_578 : decode cL_law 578 = .ok (.iload 4, 2) := dk_21 4 (dk_at dksL_law_21 5 rfl rfl)
theorem dL_law_580 : decode cL_law 580 = .ok (.iconst 1, 1) := dk_4 (dk_at dksL_law_21 7 rfl rfl)
theorem dL_law_581 : decode cL_law 581 = .ok (.iadd, 1) := dk_96 (dk_at dksL_law_21 8 rfl rfl)
theorem dL_law_582 : decode cL_law 582 = .ok (.iaload, 1) := dk_46 (dk_at dksL_law_21 9 rfl rfl)
theorem dL_law_583 : decode cL_law 583 = .ok (.aload_n 3, 1) := dk_45 (dk_at dksL_law_21 10 rfl rfl)
theorem dL_law_584 : decode cL_law 584 = .ok (.invokestatic 117, 3) := dk_184 0 117 (dk_at dksL_law_21 11 rfl rfl)
theorem dL_law_587 : decode cL_law 587 = .ok (.istore 5, 2) := dk_54 5 (dk_at dksL_law_21 14 rfl rfl)
theorem dL_law_589 : decode cL_law 589 = .ok (.aload_n 2, 1) := dk_44 (dk_at dksL_law_21 16 rfl rfl)
theorem dL_law_590 : decode cL_law 590 = .ok (.aload_n 0, 1) := dk_42 (dk_at dksL_law_21 17 rfl rfl)
theorem dL_law_591 : decode cL_law 591 = .ok (.iload 4, 2) := dk_21 4 (dk_at dksL_law_21 18 rfl rfl)
theorem dL_law_593 : decode cL_law 593 = .ok (.iconst 1, 1) := dk_4 (dk_at dksL_law_21 20 rfl rfl)
theorem dL_law_594 : decode cL_law 594 = .ok (.iadd, 1) := dk_96 (dk_at dksL_law_21 21 rfl rfl)
theorem dL_law_595 : decode cL_law 595 = .ok (.iaload, 1) := dk_46 (dk_at dksL_law_21 22 rfl rfl)
theorem dL_law_596 : decode cL_law 596 = .ok (.invokevirtual 119, 3) := dk_182 0 119 (dk_at dksL_law_22 0 rfl rfl)
theorem dL_law_599 : decode cL_law 599 = .ok (.istore 6, 2) := dk_54 6 (dk_at dksL_law_22 3 rfl rfl)
theorem dL_law_601 : decode cL_law 601 = .ok (.aload_n 2, 1) := dk_44 (dk_at dksL_law_22 5 rfl rfl)
theorem dL_law_602 : decode cL_law 602 = .ok (.invokevirtual 91, 3) := dk_182 0 91 (dk_at dksL_law_22 6 rfl rfl)
theorem dL_law_605 : decode cL_law 605 = .ok (.iload 5, 2) := dk_21 5 (dk_at dksL_law_22 9 rfl rfl)
theorem dL_law_607 : decode cL_law 607 = .ok (.if_icmp .eq 5, 3) := dk_159 0 5 (dk_at dksL_law_22 11 rfl rfl)
theorem dL_law_610 : decode cL_law 610 = .ok (.iconst 0, 1) := dk_3 (dk_at dksL_law_22 14 rfl rfl)
theorem dL_law_611 : decode cL_law 611 = .ok (.ireturn, 1) := dk_172 (dk_at dksL_law_22 15 rfl rfl)
theorem dL_law_612 : decode cL_law 612 = .ok (.iload 5, 2) := dk_21 5 (dk_at dksL_law_22 16 rfl rfl)
theorem dL_law_614 : decode cL_law 614 = .ok (.ifCond .ne 15, 3) := dk_154 0 15 (dk_at dksL_law_22 18 rfl rfl)
theorem dL_law_617 : decode cL_law 617 = .ok (.aload_n 3, 1) := dk_45 (dk_at dksL_law_22 21 rfl rfl)
theorem dL_law_618 : decode cL_law 618 = .ok (.iconst 0, 1) := dk_3 (dk_at dksL_law_22 22 rfl rfl)
theorem dL_law_619 : decode cL_law 619 = .ok (.laload, 1) := dk_47 (dk_at dksL_law_22 23 rfl rfl)
theorem dL_law_620 : decode cL_law 620 = .ok (.iload 6, 2) := dk_21 6 (dk_at dksL_law_23 0 rfl rfl)
theorem dL_law_622 : decode cL_law 622 = .ok (.i2l, 1) := dk_133 (dk_at dksL_law_23 2 rfl rfl)
theorem dL_law_623 : decode cL_law 623 = .ok (.lcmp, 1) := dk_148 (dk_at dksL_law_23 3 rfl rfl)
theorem dL_law_624 : decode cL_law 624 = .ok (.ifCond .eq 5, 3) := dk_153 0 5 (dk_at dksL_law_23 4 rfl rfl)
theorem dL_law_627 : decode cL_law 627 = .ok (.iconst 0, 1) := dk_3 (dk_at dksL_law_23 7 rfl rfl)
theorem dL_law_628 : decode cL_law 628 = .ok (.ireturn, 1) := dk_172 (dk_at dksL_law_23 8 rfl rfl)
theorem dL_law_629 : decode cL_law 629 = .ok (.goto 776, 3) := dk_167 3 8 (dk_at dksL_law_23 9 rfl rfl)
theorem dL_law_632 : decode cL_law 632 = .ok (.aload_n 1, 1) := dk_43 (dk_at dksL_law_23 12 rfl rfl)
theorem dL_law_633 : decode cL_law 633 = .ok (.aload_n 0, 1) := dk_42 (dk_at dksL_law_23 13 rfl rfl)
theorem dL_law_634 : decode cL_law 634 = .ok (.iload 4, 2) := dk_21 4 (dk_at dksL_law_23 14 rfl rfl)
theorem dL_law_636 : decode cL_law 636 = .ok (.iconst 1, 1) := dk_4 (dk_at dksL_law_23 16 rfl rfl)
theorem dL_law_637 : decode cL_law 637 = .ok (.iadd, 1) := dk_96 (dk_at dksL_law_23 17 rfl rfl)
theorem dL_law_638 : decode cL_law 638 = .ok (.iaload, 1) := dk_46 (dk_at dksL_law_23 18 rfl rfl)
theorem dL_law_639 : decode cL_law 639 = .ok (.aload_n 0, 1) := dk_42 (dk_at dksL_law_23 19 rfl rfl)
theorem dL_law_640 : decode cL_law 640 = .ok (.iload 4, 2) := dk_21 4 (dk_at dksL_law_23 20 rfl rfl)
theorem dL_law_642 : decode cL_law 642 = .ok (.iconst 2, 1) := dk_5 (dk_at dksL_law_23 22 rfl rfl)
theorem dL_law_643 : decode cL_law 643 = .ok (.iadd, 1) := dk_96 (dk_at dksL_law_23 23 rfl rfl)
theorem dL_law_644 : decode cL_law 644 = .ok (.iaload, 1) := dk_46 (dk_at dksL_law_24 0 rfl rfl)
theorem dL_law_645 : decode cL_law 645 = .ok (.aload_n 3, 1) := dk_45 (dk_at dksL_law_24 1 rfl rfl)
theorem dL_law_646 : decode cL_law 646 = .ok (.invokestatic 120, 3) := dk_184 0 120 (dk_at dksL_law_24 2 rfl rfl)
theorem dL_law_649 : decode cL_law 649 = .ok (.istore 5, 2) := dk_54 5 (dk_at dksL_law_24 5 rfl rfl)
theorem dL_law_651 : decode cL_law 651 = .ok (.aload_n 2, 1) := dk_44 (dk_at dksL_law_24 7 rfl rfl)
theorem dL_law_652 : decode cL_law 652 = .ok (.aload_n 0, 1) := dk_42 (dk_at dksL_law_24 8 rfl rfl)
theorem dL_law_653 : decode cL_law 653 = .ok (.iload 4, 2) := dk_21 4 (dk_at dksL_law_24 9 rfl rfl)
theorem dL_law_655 : decode cL_law 655 = .ok (.iconst 1, 1) := dk_4 (dk_at dksL_law_24 11 rfl rfl)
theorem dL_law_656 : decode cL_law 656 = .ok (.iadd, 1) := dk_96 (dk_at dksL_law_24 12 rfl rfl)
theorem dL_law_657 : decode cL_law 657 = .ok (.iaload, 1) := dk_46 (dk_at dksL_law_24 13 rfl rfl)
theorem dL_law_658 : decode cL_law 658 = .ok (.aload_n 0, 1) := dk_42 (dk_at dksL_law_24 14 rfl rfl)
theorem dL_law_659 : decode cL_law 659 = .ok (.iload 4, 2) := dk_21 4 (dk_at dksL_law_24 15 rfl rfl)
theorem dL_law_661 : decode cL_law 661 = .ok (.iconst 2, 1) := dk_5 (dk_at dksL_law_24 17 rfl rfl)
theorem dL_law_662 : decode cL_law 662 = .ok (.iadd, 1) := dk_96 (dk_at dksL_law_24 18 rfl rfl)
theorem dL_law_663 : decode cL_law 663 = .ok (.iaload, 1) := dk_46 (dk_at dksL_law_24 19 rfl rfl)
theorem dL_law_664 : decode cL_law 664 = .ok (.invokevirtual 122, 3) := dk_182 0 122 (dk_at dksL_law_24 20 rfl rfl)
theorem dL_law_667 : decode cL_law 667 = .ok (.istore 6, 2) := dk_54 6 (dk_at dksL_law_25 0 rfl rfl)
theorem dL_law_669 : decode cL_law 669 = .ok (.aload_n 2, 1) := dk_44 (dk_at dksL_law_25 2 rfl rfl)
theorem dL_law_670 : decode cL_law 670 = .ok (.invokevirtual 91, 3) := dk_182 0 91 (dk_at dksL_law_25 3 rfl rfl)
theorem dL_law_673 : decode cL_law 673 = .ok (.iload 5, 2) := dk_21 5 (dk_at dksL_law_25 6 rfl rfl)
theorem dL_law_675 : decode cL_law 675 = .ok (.if_icmp .eq 5, 3) := dk_159 0 5 (dk_at dksL_law_25 8 rfl rfl)
theorem dL_law_678 : decode cL_law 678 = .ok (.iconst 0, 1) := dk_3 (dk_at dksL_law_25 11 rfl rfl)
theorem dL_law_679 : decode cL_law 679 = .ok (.ireturn, 1) := dk_172 (dk_at dksL_law_25 12 rfl rfl)
theorem dL_law_680 : decode cL_law 680 = .ok (.iload 5, 2) := dk_21 5 (dk_at dksL_law_25 13 rfl rfl)
theorem dL_law_682 : decode cL_law 682 = .ok (.ifCond .ne 15, 3) := dk_154 0 15 (dk_at dksL_law_25 15 rfl rfl)
theorem dL_law_685 : decode cL_law 685 = .ok (.aload_n 3, 1) := dk_45 (dk_at dksL_law_25 18 rfl rfl)
theorem dL_law_686 : decode cL_law 686 = .ok (.iconst 0, 1) := dk_3 (dk_at dksL_law_25 19 rfl rfl)
theorem dL_law_687 : decode cL_law 687 = .ok (.laload, 1) := dk_47 (dk_at dksL_law_25 20 rfl rfl)
theorem dL_law_688 : decode cL_law 688 = .ok (.iload 6, 2) := dk_21 6 (dk_at dksL_law_25 21 rfl rfl)
theorem dL_law_690 : decode cL_law 690 = .ok (.i2l, 1) := dk_133 (dk_at dksL_law_25 23 rfl rfl)
theorem dL_law_691 : decode cL_law 691 = .ok (.lcmp, 1) := dk_148 (dk_at dksL_law_26 0 rfl rfl)
theorem dL_law_692 : decode cL_law 692 = .ok (.ifCond .eq 5, 3) := dk_153 0 5 (dk_at dksL_law_26 1 rfl rfl)
theorem dL_law_695 : decode cL_law 695 = .ok (.iconst 0, 1) := dk_3 (dk_at dksL_law_26 4 rfl rfl)
theorem dL_law_696 : decode cL_law 696 = .ok (.ireturn, 1) := dk_172 (dk_at dksL_law_26 5 rfl rfl)
theorem dL_law_697 : decode cL_law 697 = .ok (.goto 708, 3) := dk_167 2 196 (dk_at dksL_law_26 6 rfl rfl)
theorem dL_law_700 : decode cL_law 700 = .ok (.aload_n 1, 1) := dk_43 (dk_at dksL_law_26 9 rfl rfl)
theorem dL_law_701 : decode cL_law 701 = .ok (.aload_n 0, 1) := dk_42 (dk_at dksL_law_26 10 rfl rfl)
theorem dL_law_702 : decode cL_law 702 = .ok (.iload 4, 2) := dk_21 4 (dk_at dksL_law_26 11 rfl rfl)
theorem dL_law_704 : decode cL_law 704 = .ok (.iconst 1, 1) := dk_4 (dk_at dksL_law_26 13 rfl rfl)
theorem dL_law_705 : decode cL_law 705 = .ok (.iadd, 1) := dk_96 (dk_at dksL_law_26 14 rfl rfl)
theorem dL_law_706 : decode cL_law 706 = .ok (.iaload, 1) := dk_46 (dk_at dksL_law_26 15 rfl rfl)
theorem dL_law_707 : decode cL_law 707 = .ok (.aload_n 0, 1) := dk_42 (dk_at dksL_law_26 16 rfl rfl)
theorem dL_law_708 : decode cL_law 708 = .ok (.iload 4, 2) := dk_21 4 (dk_at dksL_law_26 17 rfl rfl)
theorem dL_law_710 : decode cL_law 710 = .ok (.iconst 2, 1) := dk_5 (dk_at dksL_law_26 19 rfl rfl)
theorem dL_law_711 : decode cL_law 711 = .ok (.iadd, 1) := dk_96 (dk_at dksL_law_26 20 rfl rfl)
theorem dL_law_712 : decode cL_law 712 = .ok (.iaload, 1) := dk_46 (dk_at dksL_law_26 21 rfl rfl)
theorem dL_law_713 : decode cL_law 713 = .ok (.aload_n 3, 1) := dk_45 (dk_at dksL_law_26 22 rfl rfl)
theorem dL_law_714 : decode cL_law 714 = .ok (.invokestatic 123, 3) := dk_184 0 123 (dk_at dksL_law_27 0 rfl rfl)
theorem dL_law_717 : decode cL_law 717 = .ok (.istore 5, 2) := dk_54 5 (dk_at dksL_law_27 3 rfl rfl)
theorem dL_law_719 : decode cL_law 719 = .ok (.aload_n 2, 1) := dk_44 (dk_at dksL_law_27 5 rfl rfl)
theorem dL_law_720 : decode cL_law 720 = .ok (.aload_n 0, 1) := dk_42 (dk_at dksL_law_27 6 rfl rfl)
theorem dL_law_721 : decode cL_law 721 = .ok (.iload 4, 2) := dk_21 4 (dk_at dksL_law_27 7 rfl rfl)
theorem dL_law_723 : decode cL_law 723 = .ok (.iconst 1, 1) := dk_4 (dk_at dksL_law_27 9 rfl rfl)
theorem dL_law_724 : decode cL_law 724 = .ok (.iadd, 1) := dk_96 (dk_at dksL_law_27 10 rfl rfl)
theorem dL_law_725 : decode cL_law 725 = .ok (.iaload, 1) := dk_46 (dk_at dksL_law_27 11 rfl rfl)
theorem dL_law_726 : decode cL_law 726 = .ok (.aload_n 0, 1) := dk_42 (dk_at dksL_law_27 12 rfl rfl)
theorem dL_law_727 : decode cL_law 727 = .ok (.iload 4, 2) := dk_21 4 (dk_at dksL_law_27 13 rfl rfl)
theorem dL_law_729 : decode cL_law 729 = .ok (.iconst 2, 1) := dk_5 (dk_at dksL_law_27 15 rfl rfl)
theorem dL_law_730 : decode cL_law 730 = .ok (.iadd, 1) := dk_96 (dk_at dksL_law_27 16 rfl rfl)
theorem dL_law_731 : decode cL_law 731 = .ok (.iaload, 1) := dk_46 (dk_at dksL_law_27 17 rfl rfl)
theorem dL_law_732 : decode cL_law 732 = .ok (.invokevirtual 125, 3) := dk_182 0 125 (dk_at dksL_law_27 18 rfl rfl)
theorem dL_law_735 : decode cL_law 735 = .ok (.istore 6, 2) := dk_54 6 (dk_at dksL_law_27 21 rfl rfl)
theorem dL_law_737 : decode cL_law 737 = .ok (.aload_n 2, 1) := dk_44 (dk_at dksL_law_27 23 rfl rfl)
theorem dL_law_738 : decode cL_law 738 = .ok (.invokevirtual 91, 3) := dk_182 0 91 (dk_at dksL_law_28 0 rfl rfl)
theorem dL_law_741 : decode cL_law 741 = .ok (.iload 5, 2) := dk_21 5 (dk_at dksL_law_28 3 rfl rfl)
theorem dL_law_743 : decode cL_law 743 = .ok (.if_icmp .eq 5, 3) := dk_159 0 5 (dk_at dksL_law_28 5 rfl rfl)
theorem dL_law_746 : decode cL_law 746 = .ok (.iconst 0, 1) := dk_3 (dk_at dksL_law_28 8 rfl rfl)
theorem dL_law_747 : decode cL_law 747 = .ok (.ireturn, 1) := dk_172 (dk_at dksL_law_28 9 rfl rfl)
theorem dL_law_748 : decode cL_law 748 = .ok (.iload 5, 2) := dk_21 5 (dk_at dksL_law_28 10 rfl rfl)
theorem dL_law_750 : decode cL_law 750 = .ok (.ifCond .ne 15, 3) := dk_154 0 15 (dk_at dksL_law_28 12 rfl rfl)
theorem dL_law_753 : decode cL_law 753 = .ok (.aload_n 3, 1) := dk_45 (dk_at dksL_law_28 15 rfl rfl)
theorem dL_law_754 : decode cL_law 754 = .ok (.iconst 0, 1) := dk_3 (dk_at dksL_law_28 16 rfl rfl)
theorem dL_law_755 : decode cL_law 755 = .ok (.laload, 1) := dk_47 (dk_at dksL_law_28 17 rfl rfl)
theorem dL_law_756 : decode cL_law 756 = .ok (.iload 6, 2) := dk_21 6 (dk_at dksL_law_28 18 rfl rfl)
theorem dL_law_758 : decode cL_law 758 = .ok (.i2l, 1) := dk_133 (dk_at dksL_law_28 20 rfl rfl)
theorem dL_law_759 : decode cL_law 759 = .ok (.lcmp, 1) := dk_148 (dk_at dksL_law_28 21 rfl rfl)
theorem dL_law_760 : decode cL_law 760 = .ok (.ifCond .eq 5, 3) := dk_153 0 5 (dk_at dksL_law_29 0 rfl rfl)
theorem dL_law_763 : decode cL_law 763 = .ok (.iconst 0, 1) := dk_3 (dk_at dksL_law_29 3 rfl rfl)
theorem dL_law_764 : decode cL_law 764 = .ok (.ireturn, 1) := dk_172 (dk_at dksL_law_29 4 rfl rfl)
theorem dL_law_765 : decode cL_law 765 = .ok (.goto 640, 3) := dk_167 2 128 (dk_at dksL_law_29 5 rfl rfl)
theorem dL_law_768 : decode cL_law 768 = .ok (.aload_n 1, 1) := dk_43 (dk_at dksL_law_29 8 rfl rfl)
theorem dL_law_769 : decode cL_law 769 = .ok (.aload_n 0, 1) := dk_42 (dk_at dksL_law_29 9 rfl rfl)
theorem dL_law_770 : decode cL_law 770 = .ok (.iload 4, 2) := dk_21 4 (dk_at dksL_law_29 10 rfl rfl)
theorem dL_law_772 : decode cL_law 772 = .ok (.iconst 1, 1) := dk_4 (dk_at dksL_law_29 12 rfl rfl)
theorem dL_law_773 : decode cL_law 773 = .ok (.iadd, 1) := dk_96 (dk_at dksL_law_29 13 rfl rfl)
theorem dL_law_774 : decode cL_law 774 = .ok (.iaload, 1) := dk_46 (dk_at dksL_law_29 14 rfl rfl)
theorem dL_law_775 : decode cL_law 775 = .ok (.aload_n 0, 1) := dk_42 (dk_at dksL_law_29 15 rfl rfl)
theorem dL_law_776 : decode cL_law 776 = .ok (.iload 4, 2) := dk_21 4 (dk_at dksL_law_29 16 rfl rfl)
theorem dL_law_778 : decode cL_law 778 = .ok (.iconst 2, 1) := dk_5 (dk_at dksL_law_29 18 rfl rfl)
theorem dL_law_779 : decode cL_law 779 = .ok (.iadd, 1) := dk_96 (dk_at dksL_law_29 19 rfl rfl)
theorem dL_law_780 : decode cL_law 780 = .ok (.iaload, 1) := dk_46 (dk_at dksL_law_29 20 rfl rfl)
theorem dL_law_781 : decode cL_law 781 = .ok (.aload_n 3, 1) := dk_45 (dk_at dksL_law_29 21 rfl rfl)
theorem dL_law_782 : decode cL_law 782 = .ok (.invokestatic 126, 3) := dk_184 0 126 (dk_at dksL_law_30 0 rfl rfl)
theorem dL_law_785 : decode cL_law 785 = .ok (.istore 5, 2) := dk_54 5 (dk_at dksL_law_30 3 rfl rfl)
theorem dL_law_787 : decode cL_law 787 = .ok (.aload_n 2, 1) := dk_44 (dk_at dksL_law_30 5 rfl rfl)
theorem dL_law_788 : decode cL_law 788 = .ok (.aload_n 0, 1) := dk_42 (dk_at dksL_law_30 6 rfl rfl)
theorem dL_law_789 : decode cL_law 789 = .ok (.iload 4, 2) := dk_21 4 (dk_at dksL_law_30 7 rfl rfl)
theorem dL_law_791 : decode cL_law 791 = .ok (.iconst 1, 1) := dk_4 (dk_at dksL_law_30 9 rfl rfl)
theorem dL_law_792 : decode cL_law 792 = .ok (.iadd, 1) := dk_96 (dk_at dksL_law_30 10 rfl rfl)
theorem dL_law_793 : decode cL_law 793 = .ok (.iaload, 1) := dk_46 (dk_at dksL_law_30 11 rfl rfl)
theorem dL_law_794 : decode cL_law 794 = .ok (.aload_n 0, 1) := dk_42 (dk_at dksL_law_30 12 rfl rfl)
theorem dL_law_795 : decode cL_law 795 = .ok (.iload 4, 2) := dk_21 4 (dk_at dksL_law_30 13 rfl rfl)
theorem dL_law_797 : decode cL_law 797 = .ok (.iconst 2, 1) := dk_5 (dk_at dksL_law_30 15 rfl rfl)
theorem dL_law_798 : decode cL_law 798 = .ok (.iadd, 1) := dk_96 (dk_at dksL_law_30 16 rfl rfl)
theorem dL_law_799 : decode cL_law 799 = .ok (.iaload, 1) := dk_46 (dk_at dksL_law_30 17 rfl rfl)
theorem dL_law_800 : decode cL_law 800 = .ok (.invokevirtual 128, 3) := dk_182 0 128 (dk_at dksL_law_30 18 rfl rfl)
theorem dL_law_803 : decode cL_law 803 = .ok (.istore 6, 2) := dk_54 6 (dk_at dksL_law_30 21 rfl rfl)
theorem dL_law_805 : decode cL_law 805 = .ok (.aload_n 2, 1) := dk_44 (dk_at dksL_law_30 23 rfl rfl)
theorem dL_law_806 : decode cL_law 806 = .ok (.invokevirtual 91, 3) := dk_182 0 91 (dk_at dksL_law_31 0 rfl rfl)
theorem dL_law_809 : decode cL_law 809 = .ok (.iload 5, 2) := dk_21 5 (dk_at dksL_law_31 3 rfl rfl)
theorem dL_law_811 : decode cL_law 811 = .ok (.if_icmp .eq 5, 3) := dk_159 0 5 (dk_at dksL_law_31 5 rfl rfl)
theorem dL_law_814 : decode cL_law 814 = .ok (.iconst 0, 1) := dk_3 (dk_at dksL_law_31 8 rfl rfl)
theorem dL_law_815 : decode cL_law 815 = .ok (.ireturn, 1) := dk_172 (dk_at dksL_law_31 9 rfl rfl)
theorem dL_law_816 : decode cL_law 816 = .ok (.iload 5, 2) := dk_21 5 (dk_at dksL_law_31 10 rfl rfl)
theorem dL_law_818 : decode cL_law 818 = .ok (.ifCond .ne 15, 3) := dk_154 0 15 (dk_at dksL_law_31 12 rfl rfl)
theorem dL_law_821 : decode cL_law 821 = .ok (.aload_n 3, 1) := dk_45 (dk_at dksL_law_31 15 rfl rfl)
theorem dL_law_822 : decode cL_law 822 = .ok (.iconst 0, 1) := dk_3 (dk_at dksL_law_31 16 rfl rfl)
theorem dL_law_823 : decode cL_law 823 = .ok (.laload, 1) := dk_47 (dk_at dksL_law_31 17 rfl rfl)
theorem dL_law_824 : decode cL_law 824 = .ok (.iload 6, 2) := dk_21 6 (dk_at dksL_law_31 18 rfl rfl)
theorem dL_law_826 : decode cL_law 826 = .ok (.i2l, 1) := dk_133 (dk_at dksL_law_31 20 rfl rfl)
theorem dL_law_827 : decode cL_law 827 = .ok (.lcmp, 1) := dk_148 (dk_at dksL_law_31 21 rfl rfl)
theorem dL_law_828 : decode cL_law 828 = .ok (.ifCond .eq 5, 3) := dk_153 0 5 (dk_at dksL_law_32 0 rfl rfl)
theorem dL_law_831 : decode cL_law 831 = .ok (.iconst 0, 1) := dk_3 (dk_at dksL_law_32 3 rfl rfl)
theorem dL_law_832 : decode cL_law 832 = .ok (.ireturn, 1) := dk_172 (dk_at dksL_law_32 4 rfl rfl)
theorem dL_law_833 : decode cL_law 833 = .ok (.goto 572, 3) := dk_167 2 60 (dk_at dksL_law_32 5 rfl rfl)
theorem dL_law_836 : decode cL_law 836 = .ok (.aload_n 1, 1) := dk_43 (dk_at dksL_law_32 8 rfl rfl)
theorem dL_law_837 : decode cL_law 837 = .ok (.aload_n 0, 1) := dk_42 (dk_at dksL_law_32 9 rfl rfl)
theorem dL_law_838 : decode cL_law 838 = .ok (.iload 4, 2) := dk_21 4 (dk_at dksL_law_32 10 rfl rfl)
theorem dL_law_840 : decode cL_law 840 = .ok (.iconst 1, 1) := dk_4 (dk_at dksL_law_32 12 rfl rfl)
theorem dL_law_841 : decode cL_law 841 = .ok (.iadd, 1) := dk_96 (dk_at dksL_law_32 13 rfl rfl)
theorem dL_law_842 : decode cL_law 842 = .ok (.iaload, 1) := dk_46 (dk_at dksL_law_32 14 rfl rfl)
theorem dL_law_843 : decode cL_law 843 = .ok (.aload_n 0, 1) := dk_42 (dk_at dksL_law_32 15 rfl rfl)
theorem dL_law_844 : decode cL_law 844 = .ok (.iload 4, 2) := dk_21 4 (dk_at dksL_law_32 16 rfl rfl)
theorem dL_law_846 : decode cL_law 846 = .ok (.iconst 2, 1) := dk_5 (dk_at dksL_law_32 18 rfl rfl)
theorem dL_law_847 : decode cL_law 847 = .ok (.iadd, 1) := dk_96 (dk_at dksL_law_32 19 rfl rfl)
theorem dL_law_848 : decode cL_law 848 = .ok (.iaload, 1) := dk_46 (dk_at dksL_law_32 20 rfl rfl)
theorem dL_law_849 : decode cL_law 849 = .ok (.aload_n 3, 1) := dk_45 (dk_at dksL_law_32 21 rfl rfl)
theorem dL_law_850 : decode cL_law 850 = .ok (.invokestatic 129, 3) := dk_184 0 129 (dk_at dksL_law_33 0 rfl rfl)
theorem dL_law_853 : decode cL_law 853 = .ok (.istore 5, 2) := dk_54 5 (dk_at dksL_law_33 3 rfl rfl)
theorem dL_law_855 : decode cL_law 855 = .ok (.aload_n 2, 1) := dk_44 (dk_at dksL_law_33 5 rfl rfl)
theorem dL_law_856 : decode cL_law 856 = .ok (.aload_n 0, 1) := dk_42 (dk_at dksL_law_33 6 rfl rfl)
theorem dL_law_857 : decode cL_law 857 = .ok (.iload 4, 2) := dk_21 4 (dk_at dksL_law_33 7 rfl rfl)
theorem dL_law_859 : decode cL_law 859 = .ok (.iconst 1, 1) := dk_4 (dk_at dksL_law_33 9 rfl rfl)
theorem dL_law_860 : decode cL_law 860 = .ok (.iadd, 1) := dk_96 (dk_at dksL_law_33 10 rfl rfl)
theorem dL_law_861 : decode cL_law 861 = .ok (.iaload, 1) := dk_46 (dk_at dksL_law_33 11 rfl rfl)
theorem dL_law_862 : decode cL_law 862 = .ok (.aload_n 0, 1) := dk_42 (dk_at dksL_law_33 12 rfl rfl)
theorem dL_law_863 : decode cL_law 863 = .ok (.iload 4, 2) := dk_21 4 (dk_at dksL_law_33 13 rfl rfl)
theorem dL_law_865 : decode cL_law 865 = .ok (.iconst 2, 1) := dk_5 (dk_at dksL_law_33 15 rfl rfl)
theorem dL_law_866 : decode cL_law 866 = .ok (.iadd, 1) := dk_96 (dk_at dksL_law_33 16 rfl rfl)
theorem dL_law_867 : decode cL_law 867 = .ok (.iaload, 1) := dk_46 (dk_at dksL_law_33 17 rfl rfl)
theorem dL_law_868 : decode cL_law 868 = .ok (.invokevirtual 131, 3) := dk_182 0 131 (dk_at dksL_law_33 18 rfl rfl)
theorem dL_law_871 : decode cL_law 871 = .ok (.istore 6, 2) := dk_54 6 (dk_at dksL_law_33 21 rfl rfl)
theorem dL_law_873 : decode cL_law 873 = .ok (.aload_n 2, 1) := dk_44 (dk_at dksL_law_33 23 rfl rfl)
theorem dL_law_874 : decode cL_law 874 = .ok (.invokevirtual 91, 3) := dk_182 0 91 (dk_at dksL_law_34 0 rfl rfl)
theorem dL_law_877 : decode cL_law 877 = .ok (.iload 5, 2) := dk_21 5 (dk_at dksL_law_34 3 rfl rfl)
theorem dL_law_879 : decode cL_law 879 = .ok (.if_icmp .eq 5, 3) := dk_159 0 5 (dk_at dksL_law_34 5 rfl rfl)
theorem dL_law_882 : decode cL_law 882 = .ok (.iconst 0, 1) := dk_3 (dk_at dksL_law_34 8 rfl rfl)
theorem dL_law_883 : decode cL_law 883 = .ok (.ireturn, 1) := dk_172 (dk_at dksL_law_34 9 rfl rfl)
theorem dL_law_884 : decode cL_law 884 = .ok (.iload 5, 2) := dk_21 5 (dk_at dksL_law_34 10 rfl rfl)
theorem dL_law_886 : decode cL_law 886 = .ok (.ifCond .ne 15, 3) := dk_154 0 15 (dk_at dksL_law_34 12 rfl rfl)
theorem dL_law_889 : decode cL_law 889 = .ok (.aload_n 3, 1) := dk_45 (dk_at dksL_law_34 15 rfl rfl)
theorem dL_law_890 : decode cL_law 890 = .ok (.iconst 0, 1) := dk_3 (dk_at dksL_law_34 16 rfl rfl)
theorem dL_law_891 : decode cL_law 891 = .ok (.laload, 1) := dk_47 (dk_at dksL_law_34 17 rfl rfl)
theorem dL_law_892 : decode cL_law 892 = .ok (.iload 6, 2) := dk_21 6 (dk_at dksL_law_34 18 rfl rfl)
theorem dL_law_894 : decode cL_law 894 = .ok (.i2l, 1) := dk_133 (dk_at dksL_law_34 20 rfl rfl)
theorem dL_law_895 : decode cL_law 895 = .ok (.lcmp, 1) := dk_148 (dk_at dksL_law_34 21 rfl rfl)
theorem dL_law_896 : decode cL_law 896 = .ok (.ifCond .eq 5, 3) := dk_153 0 5 (dk_at dksL_law_35 0 rfl rfl)
theorem dL_law_899 : decode cL_law 899 = .ok (.iconst 0, 1) := dk_3 (dk_at dksL_law_35 3 rfl rfl)
theorem dL_law_900 : decode cL_law 900 = .ok (.ireturn, 1) := dk_172 (dk_at dksL_law_35 4 rfl rfl)
theorem dL_law_901 : decode cL_law 901 = .ok (.goto 504, 3) := dk_167 1 248 (dk_at dksL_law_35 5 rfl rfl)
theorem dL_law_904 : decode cL_law 904 = .ok (.aload_n 1, 1) := dk_43 (dk_at dksL_law_35 8 rfl rfl)
theorem dL_law_905 : decode cL_law 905 = .ok (.aload_n 0, 1) := dk_42 (dk_at dksL_law_35 9 rfl rfl)
theorem dL_law_906 : decode cL_law 906 = .ok (.iload 4, 2) := dk_21 4 (dk_at dksL_law_35 10 rfl rfl)
theorem dL_law_908 : decode cL_law 908 = .ok (.iconst 1, 1) := dk_4 (dk_at dksL_law_35 12 rfl rfl)
theorem dL_law_909 : decode cL_law 909 = .ok (.iadd, 1) := dk_96 (dk_at dksL_law_35 13 rfl rfl)
theorem dL_law_910 : decode cL_law 910 = .ok (.iaload, 1) := dk_46 (dk_at dksL_law_35 14 rfl rfl)
theorem dL_law_911 : decode cL_law 911 = .ok (.aload_n 0, 1) := dk_42 (dk_at dksL_law_35 15 rfl rfl)
theorem dL_law_912 : decode cL_law 912 = .ok (.iload 4, 2) := dk_21 4 (dk_at dksL_law_35 16 rfl rfl)
theorem dL_law_914 : decode cL_law 914 = .ok (.iconst 2, 1) := dk_5 (dk_at dksL_law_35 18 rfl rfl)
theorem dL_law_915 : decode cL_law 915 = .ok (.iadd, 1) := dk_96 (dk_at dksL_law_35 19 rfl rfl)
theorem dL_law_916 : decode cL_law 916 = .ok (.iaload, 1) := dk_46 (dk_at dksL_law_35 20 rfl rfl)
theorem dL_law_917 : decode cL_law 917 = .ok (.aload_n 3, 1) := dk_45 (dk_at dksL_law_35 21 rfl rfl)
theorem dL_law_918 : decode cL_law 918 = .ok (.invokestatic 132, 3) := dk_184 0 132 (dk_at dksL_law_36 0 rfl rfl)
theorem dL_law_921 : decode cL_law 921 = .ok (.istore 5, 2) := dk_54 5 (dk_at dksL_law_36 3 rfl rfl)
theorem dL_law_923 : decode cL_law 923 = .ok (.aload_n 2, 1) := dk_44 (dk_at dksL_law_36 5 rfl rfl)
theorem dL_law_924 : decode cL_law 924 = .ok (.aload_n 0, 1) := dk_42 (dk_at dksL_law_36 6 rfl rfl)
theorem dL_law_925 : decode cL_law 925 = .ok (.iload 4, 2) := dk_21 4 (dk_at dksL_law_36 7 rfl rfl)
theorem dL_law_927 : decode cL_law 927 = .ok (.iconst 1, 1) := dk_4 (dk_at dksL_law_36 9 rfl rfl)
theorem dL_law_928 : decode cL_law 928 = .ok (.iadd, 1) := dk_96 (dk_at dksL_law_36 10 rfl rfl)
theorem dL_law_929 : decode cL_law 929 = .ok (.iaload, 1) := dk_46 (dk_at dksL_law_36 11 rfl rfl)
theorem dL_law_930 : decode cL_law 930 = .ok (.aload_n 0, 1) := dk_42 (dk_at dksL_law_36 12 rfl rfl)
theorem dL_law_931 : decode cL_law 931 = .ok (.iload 4, 2) := dk_21 4 (dk_at dksL_law_36 13 rfl rfl)
theorem dL_law_933 : decode cL_law 933 = .ok (.iconst 2, 1) := dk_5 (dk_at dksL_law_36 15 rfl rfl)
theorem dL_law_934 : decode cL_law 934 = .ok (.iadd, 1) := dk_96 (dk_at dksL_law_36 16 rfl rfl)
theorem dL_law_935 : decode cL_law 935 = .ok (.iaload, 1) := dk_46 (dk_at dksL_law_36 17 rfl rfl)
theorem dL_law_936 : decode cL_law 936 = .ok (.invokevirtual 134, 3) := dk_182 0 134 (dk_at dksL_law_36 18 rfl rfl)
theorem dL_law_939 : decode cL_law 939 = .ok (.istore 6, 2) := dk_54 6 (dk_at dksL_law_36 21 rfl rfl)
theorem dL_law_941 : decode cL_law 941 = .ok (.aload_n 2, 1) := dk_44 (dk_at dksL_law_36 23 rfl rfl)
theorem dL_law_942 : decode cL_law 942 = .ok (.invokevirtual 91, 3) := dk_182 0 91 (dk_at dksL_law_37 0 rfl rfl)
theorem dL_law_945 : decode cL_law 945 = .ok (.iload 5, 2) := dk_21 5 (dk_at dksL_law_37 3 rfl rfl)
theorem dL_law_947 : decode cL_law 947 = .ok (.if_icmp .eq 5, 3) := dk_159 0 5 (dk_at dksL_law_37 5 rfl rfl)
theorem dL_law_950 : decode cL_law 950 = .ok (.iconst 0, 1) := dk_3 (dk_at dksL_law_37 8 rfl rfl)
theorem dL_law_951 : decode cL_law 951 = .ok (.ireturn, 1) := dk_172 (dk_at dksL_law_37 9 rfl rfl)
theorem dL_law_952 : decode cL_law 952 = .ok (.iload 5, 2) := dk_21 5 (dk_at dksL_law_37 10 rfl rfl)
theorem dL_law_954 : decode cL_law 954 = .ok (.ifCond .ne 15, 3) := dk_154 0 15 (dk_at dksL_law_37 12 rfl rfl)
theorem dL_law_957 : decode cL_law 957 = .ok (.aload_n 3, 1) := dk_45 (dk_at dksL_law_37 15 rfl rfl)
theorem dL_law_958 : decode cL_law 958 = .ok (.iconst 0, 1) := dk_3 (dk_at dksL_law_37 16 rfl rfl)
theorem dL_law_959 : decode cL_law 959 = .ok (.laload, 1) := dk_47 (dk_at dksL_law_37 17 rfl rfl)
theorem dL_law_960 : decode cL_law 960 = .ok (.iload 6, 2) := dk_21 6 (dk_at dksL_law_37 18 rfl rfl)
theorem dL_law_962 : decode cL_law 962 = .ok (.i2l, 1) := dk_133 (dk_at dksL_law_37 20 rfl rfl)
theorem dL_law_963 : decode cL_law 963 = .ok (.lcmp, 1) := dk_148 (dk_at dksL_law_37 21 rfl rfl)
theorem dL_law_964 : decode cL_law 964 = .ok (.ifCond .eq 5, 3) := dk_153 0 5 (dk_at dksL_law_38 0 rfl rfl)
theorem dL_law_967 : decode cL_law 967 = .ok (.iconst 0, 1) := dk_3 (dk_at dksL_law_38 3 rfl rfl)
theorem dL_law_968 : decode cL_law 968 = .ok (.ireturn, 1) := dk_172 (dk_at dksL_law_38 4 rfl rfl)
theorem dL_law_969 : decode cL_law 969 = .ok (.goto 436, 3) := dk_167 1 180 (dk_at dksL_law_38 5 rfl rfl)
theorem dL_law_972 : decode cL_law 972 = .ok (.aload_n 1, 1) := dk_43 (dk_at dksL_law_38 8 rfl rfl)
theorem dL_law_973 : decode cL_law 973 = .ok (.aload_n 0, 1) := dk_42 (dk_at dksL_law_38 9 rfl rfl)
theorem dL_law_974 : decode cL_law 974 = .ok (.iload 4, 2) := dk_21 4 (dk_at dksL_law_38 10 rfl rfl)
theorem dL_law_976 : decode cL_law 976 = .ok (.iconst 1, 1) := dk_4 (dk_at dksL_law_38 12 rfl rfl)
theorem dL_law_977 : decode cL_law 977 = .ok (.iadd, 1) := dk_96 (dk_at dksL_law_38 13 rfl rfl)
theorem dL_law_978 : decode cL_law 978 = .ok (.iaload, 1) := dk_46 (dk_at dksL_law_38 14 rfl rfl)
theorem dL_law_979 : decode cL_law 979 = .ok (.aload_n 3, 1) := dk_45 (dk_at dksL_law_38 15 rfl rfl)
theorem dL_law_980 : decode cL_law 980 = .ok (.invokestatic 135, 3) := dk_184 0 135 (dk_at dksL_law_38 16 rfl rfl)
theorem dL_law_983 : decode cL_law 983 = .ok (.istore 5, 2) := dk_54 5 (dk_at dksL_law_38 19 rfl rfl)
theorem dL_law_985 : decode cL_law 985 = .ok (.aload_n 2, 1) := dk_44 (dk_at dksL_law_38 21 rfl rfl)
theorem dL_law_986 : decode cL_law 986 = .ok (.aload_n 0, 1) := dk_42 (dk_at dksL_law_38 22 rfl rfl)
theorem dL_law_987 : decode cL_law 987 = .ok (.iload 4, 2) := dk_21 4 (dk_at dksL_law_39 0 rfl rfl)
theorem dL_law_989 : decode cL_law 989 = .ok (.iconst 1, 1) := dk_4 (dk_at dksL_law_39 2 rfl rfl)
theorem dL_law_990 : decode cL_law 990 = .ok (.iadd, 1) := dk_96 (dk_at dksL_law_39 3 rfl rfl)
theorem dL_law_991 : decode cL_law 991 = .ok (.iaload, 1) := dk_46 (dk_at dksL_law_39 4 rfl rfl)
theorem dL_law_992 : decode cL_law 992 = .ok (.invokevirtual 137, 3) := dk_182 0 137 (dk_at dksL_law_39 5 rfl rfl)
theorem dL_law_995 : decode cL_law 995 = .ok (.istore 6, 2) := dk_54 6 (dk_at dksL_law_39 8 rfl rfl)
theorem dL_law_997 : decode cL_law 997 = .ok (.aload_n 2, 1) := dk_44 (dk_at dksL_law_39 10 rfl rfl)
theorem dL_law_998 : decode cL_law 998 = .ok (.invokevirtual 91, 3) := dk_182 0 91 (dk_at dksL_law_39 11 rfl rfl)
theorem dL_law_1001 : decode cL_law 1001 = .ok (.iload 5, 2) := dk_21 5 (dk_at dksL_law_39 14 rfl rfl)
theorem dL_law_1003 : decode cL_law 1003 = .ok (.if_icmp .eq 5, 3) := dk_159 0 5 (dk_at dksL_law_39 16 rfl rfl)
theorem dL_law_1006 : decode cL_law 1006 = .ok (.iconst 0, 1) := dk_3 (dk_at dksL_law_39 19 rfl rfl)
theorem dL_law_1007 : decode cL_law 1007 = .ok (.ireturn, 1) := dk_172 (dk_at dksL_law_39 20 rfl rfl)
theorem dL_law_1008 : decode cL_law 1008 = .ok (.iload 5, 2) := dk_21 5 (dk_at dksL_law_39 21 rfl rfl)
theorem dL_law_1010 : decode cL_law 1010 = .ok (.ifCond .ne 15, 3) := dk_154 0 15 (dk_at dksL_law_40 0 rfl rfl)
theorem dL_law_1013 : decode cL_law 1013 = .ok (.aload_n 3, 1) := dk_45 (dk_at dksL_law_40 3 rfl rfl)
theorem dL_law_1014 : decode cL_law 1014 = .ok (.iconst 0, 1) := dk_3 (dk_at dksL_law_40 4 rfl rfl)
theorem dL_law_1015 : decode cL_law 1015 = .ok (.laload, 1) := dk_47 (dk_at dksL_law_40 5 rfl rfl)
theorem dL_law_1016 : decode cL_law 1016 = .ok (.iload 6, 2) := dk_21 6 (dk_at dksL_law_40 6 rfl rfl)
theorem dL_law_1018 : decode cL_law 1018 = .ok (.i2l, 1) := dk_133 (dk_at dksL_law_40 8 rfl rfl)
theorem dL_law_1019 : decode cL_law 1019 = .ok (.lcmp, 1) := dk_148 (dk_at dksL_law_40 9 rfl rfl)
theorem dL_law_1020 : decode cL_law 1020 = .ok (.ifCond .eq 5, 3) := dk_153 0 5 (dk_at dksL_law_40 10 rfl rfl)
theorem dL_law_1023 : decode cL_law 1023 = .ok (.iconst 0, 1) := dk_3 (dk_at dksL_law_40 13 rfl rfl)
theorem dL_law_1024 : decode cL_law 1024 = .ok (.ireturn, 1) := dk_172 (dk_at dksL_law_40 14 rfl rfl)
theorem dL_law_1025 : decode cL_law 1025 = .ok (.goto 380, 3) := dk_167 1 124 (dk_at dksL_law_40 15 rfl rfl)
theorem dL_law_1028 : decode cL_law 1028 = .ok (.aload_n 1, 1) := dk_43 (dk_at dksL_law_40 18 rfl rfl)
theorem dL_law_1029 : decode cL_law 1029 = .ok (.invokevirtual 138, 3) := dk_182 0 138 (dk_at dksL_law_40 19 rfl rfl)
theorem dL_law_1032 : decode cL_law 1032 = .ok (.aload_n 2, 1) := dk_44 (dk_at dksL_law_40 22 rfl rfl)
theorem dL_law_1033 : decode cL_law 1033 = .ok (.invokevirtual 141, 3) := dk_182 0 141 (dk_at dksL_law_41 0 rfl rfl)
theorem dL_law_1036 : decode cL_law 1036 = .ok (.if_icmp .eq 369, 3) := dk_159 1 113 (dk_at dksL_law_41 3 rfl rfl)
theorem dL_law_1039 : decode cL_law 1039 = .ok (.iconst 0, 1) := dk_3 (dk_at dksL_law_41 6 rfl rfl)
theorem dL_law_1040 : decode cL_law 1040 = .ok (.ireturn, 1) := dk_172 (dk_at dksL_law_41 7 rfl rfl)
theorem dL_law_1041 : decode cL_law 1041 = .ok (.aload_n 1, 1) := dk_43 (dk_at dksL_law_41 8 rfl rfl)
theorem dL_law_1042 : decode cL_law 1042 = .ok (.aload_n 0, 1) := dk_42 (dk_at dksL_law_41 9 rfl rfl)
theorem dL_law_1043 : decode cL_law 1043 = .ok (.iload 4, 2) := dk_21 4 (dk_at dksL_law_41 10 rfl rfl)
theorem dL_law_1045 : decode cL_law 1045 = .ok (.iconst 1, 1) := dk_4 (dk_at dksL_law_41 12 rfl rfl)
theorem dL_law_1046 : decode cL_law 1046 = .ok (.iadd, 1) := dk_96 (dk_at dksL_law_41 13 rfl rfl)
theorem dL_law_1047 : decode cL_law 1047 = .ok (.iaload, 1) := dk_46 (dk_at dksL_law_41 14 rfl rfl)
theorem dL_law_1048 : decode cL_law 1048 = .ok (.aload_n 3, 1) := dk_45 (dk_at dksL_law_41 15 rfl rfl)
theorem dL_law_1049 : decode cL_law 1049 = .ok (.invokestatic 142, 3) := dk_184 0 142 (dk_at dksL_law_41 16 rfl rfl)
theorem dL_law_1052 : decode cL_law 1052 = .ok (.istore 5, 2) := dk_54 5 (dk_at dksL_law_41 19 rfl rfl)
theorem dL_law_1054 : decode cL_law 1054 = .ok (.aload_n 2, 1) := dk_44 (dk_at dksL_law_41 21 rfl rfl)
theorem dL_law_1055 : decode cL_law 1055 = .ok (.aload_n 0, 1) := dk_42 (dk_at dksL_law_41 22 rfl rfl)
theorem dL_law_1056 : decode cL_law 1056 = .ok (.iload 4, 2) := dk_21 4 (dk_at dksL_law_42 0 rfl rfl)
theorem dL_law_1058 : decode cL_law 1058 = .ok (.iconst 1, 1) := dk_4 (dk_at dksL_law_42 2 rfl rfl)
theorem dL_law_1059 : decode cL_law 1059 = .ok (.iadd, 1) := dk_96 (dk_at dksL_law_42 3 rfl rfl)
theorem dL_law_1060 : decode cL_law 1060 = .ok (.iaload, 1) := dk_46 (dk_at dksL_law_42 4 rfl rfl)
theorem dL_law_1061 : decode cL_law 1061 = .ok (.invokevirtual 144, 3) := dk_182 0 144 (dk_at dksL_law_42 5 rfl rfl)
theorem dL_law_1064 : decode cL_law 1064 = .ok (.istore 6, 2) := dk_54 6 (dk_at dksL_law_42 8 rfl rfl)
theorem dL_law_1066 : decode cL_law 1066 = .ok (.aload_n 2, 1) := dk_44 (dk_at dksL_law_42 10 rfl rfl)
theorem dL_law_1067 : decode cL_law 1067 = .ok (.invokevirtual 91, 3) := dk_182 0 91 (dk_at dksL_law_42 11 rfl rfl)
theorem dL_law_1070 : decode cL_law 1070 = .ok (.iload 5, 2) := dk_21 5 (dk_at dksL_law_42 14 rfl rfl)
theorem dL_law_1072 : decode cL_law 1072 = .ok (.if_icmp .eq 5, 3) := dk_159 0 5 (dk_at dksL_law_42 16 rfl rfl)
theorem dL_law_1075 : decode cL_law 1075 = .ok (.iconst 0, 1) := dk_3 (dk_at dksL_law_42 19 rfl rfl)
theorem dL_law_1076 : decode cL_law 1076 = .ok (.ireturn, 1) := dk_172 (dk_at dksL_law_42 20 rfl rfl)
theorem dL_law_1077 : decode cL_law 1077 = .ok (.iload 5, 2) := dk_21 5 (dk_at dksL_law_42 21 rfl rfl)
theorem dL_law_1079 : decode cL_law 1079 = .ok (.ifCond .ne 15, 3) := dk_154 0 15 (dk_at dksL_law_43 0 rfl rfl)
theorem dL_law_1082 : decode cL_law 1082 = .ok (.aload_n 3, 1) := dk_45 (dk_at dksL_law_43 3 rfl rfl)
theorem dL_law_1083 : decode cL_law 1083 = .ok (.iconst 0, 1) := dk_3 (dk_at dksL_law_43 4 rfl rfl)
theorem dL_law_1084 : decode cL_law 1084 = .ok (.laload, 1) := dk_47 (dk_at dksL_law_43 5 rfl rfl)
theorem dL_law_1085 : decode cL_law 1085 = .ok (.iload 6, 2) := dk_21 6 (dk_at dksL_law_43 6 rfl rfl)
theorem dL_law_1087 : decode cL_law 1087 = .ok (.i2l, 1) := dk_133 (dk_at dksL_law_43 8 rfl rfl)
theorem dL_law_1088 : decode cL_law 1088 = .ok (.lcmp, 1) := dk_148 (dk_at dksL_law_43 9 rfl rfl)
theorem dL_law_1089 : decode cL_law 1089 = .ok (.ifCond .eq 5, 3) := dk_153 0 5 (dk_at dksL_law_43 10 rfl rfl)
theorem dL_law_1092 : decode cL_law 1092 = .ok (.iconst 0, 1) := dk_3 (dk_at dksL_law_43 13 rfl rfl)
theorem dL_law_1093 : decode cL_law 1093 = .ok (.ireturn, 1) := dk_172 (dk_at dksL_law_43 14 rfl rfl)
theorem dL_law_1094 : decode cL_law 1094 = .ok (.goto 311, 3) := dk_167 1 55 (dk_at dksL_law_43 15 rfl rfl)
theorem dL_law_1097 : decode cL_law 1097 = .ok (.aload_n 1, 1) := dk_43 (dk_at dksL_law_43 18 rfl rfl)
theorem dL_law_1098 : decode cL_law 1098 = .ok (.aload_n 0, 1) := dk_42 (dk_at dksL_law_43 19 rfl rfl)
theorem dL_law_1099 : decode cL_law 1099 = .ok (.iload 4, 2) := dk_21 4 (dk_at dksL_law_43 20 rfl rfl)
theorem dL_law_1101 : decode cL_law 1101 = .ok (.iconst 1, 1) := dk_4 (dk_at dksL_law_43 22 rfl rfl)
theorem dL_law_1102 : decode cL_law 1102 = .ok (.iadd, 1) := dk_96 (dk_at dksL_law_43 23 rfl rfl)
theorem dL_law_1103 : decode cL_law 1103 = .ok (.iaload, 1) := dk_46 (dk_at dksL_law_44 0 rfl rfl)
theorem dL_law_1104 : decode cL_law 1104 = .ok (.aload_n 3, 1) := dk_45 (dk_at dksL_law_44 1 rfl rfl)
theorem dL_law_1105 : decode cL_law 1105 = .ok (.invokestatic 145, 3) := dk_184 0 145 (dk_at dksL_law_44 2 rfl rfl)
theorem dL_law_1108 : decode cL_law 1108 = .ok (.istore 5, 2) := dk_54 5 (dk_at dksL_law_44 5 rfl rfl)
theorem dL_law_1110 : decode cL_law 1110 = .ok (.aload_n 2, 1) := dk_44 (dk_at dksL_law_44 7 rfl rfl)
theorem dL_law_1111 : decode cL_law 1111 = .ok (.aload_n 0, 1) := dk_42 (dk_at dksL_law_44 8 rfl rfl)
theorem dL_law_1112 : decode cL_law 1112 = .ok (.iload 4, 2) := dk_21 4 (dk_at dksL_law_44 9 rfl rfl)
theorem dL_law_1114 : decode cL_law 1114 = .ok (.iconst 1, 1) := dk_4 (dk_at dksL_law_44 11 rfl rfl)
theorem dL_law_1115 : decode cL_law 1115 = .ok (.iadd, 1) := dk_96 (dk_at dksL_law_44 12 rfl rfl)
theorem dL_law_1116 : decode cL_law 1116 = .ok (.iaload, 1) := dk_46 (dk_at dksL_law_44 13 rfl rfl)
theorem dL_law_1117 : decode cL_law 1117 = .ok (.invokevirtual 147, 3) := dk_182 0 147 (dk_at dksL_law_44 14 rfl rfl)
theorem dL_law_1120 : decode cL_law 1120 = .ok (.istore 6, 2) := dk_54 6 (dk_at dksL_law_44 17 rfl rfl)
theorem dL_law_1122 : decode cL_law 1122 = .ok (.aload_n 2, 1) := dk_44 (dk_at dksL_law_44 19 rfl rfl)
theorem dL_law_1123 : decode cL_law 1123 = .ok (.invokevirtual 91, 3) := dk_182 0 91 (dk_at dksL_law_44 20 rfl rfl)
theorem dL_law_1126 : decode cL_law 1126 = .ok (.iload 5, 2) := dk_21 5 (dk_at dksL_law_45 0 rfl rfl)
theorem dL_law_1128 : decode cL_law 1128 = .ok (.if_icmp .eq 5, 3) := dk_159 0 5 (dk_at dksL_law_45 2 rfl rfl)
theorem dL_law_1131 : decode cL_law 1131 = .ok (.iconst 0, 1) := dk_3 (dk_at dksL_law_45 5 rfl rfl)
theorem dL_law_1132 : decode cL_law 1132 = .ok (.ireturn, 1) := dk_172 (dk_at dksL_law_45 6 rfl rfl)
theorem dL_law_1133 : decode cL_law 1133 = .ok (.iload 5, 2) := dk_21 5 (dk_at dksL_law_45 7 rfl rfl)
theorem dL_law_1135 : decode cL_law 1135 = .ok (.ifCond .ne 15, 3) := dk_154 0 15 (dk_at dksL_law_45 9 rfl rfl)
theorem dL_law_1138 : decode cL_law 1138 = .ok (.aload_n 3, 1) := dk_45 (dk_at dksL_law_45 12 rfl rfl)
theorem dL_law_1139 : decode cL_law 1139 = .ok (.iconst 0, 1) := dk_3 (dk_at dksL_law_45 13 rfl rfl)
theorem dL_law_1140 : decode cL_law 1140 = .ok (.laload, 1) := dk_47 (dk_at dksL_law_45 14 rfl rfl)
theorem dL_law_1141 : decode cL_law 1141 = .ok (.iload 6, 2) := dk_21 6 (dk_at dksL_law_45 15 rfl rfl)
theorem dL_law_1143 : decode cL_law 1143 = .ok (.i2l, 1) := dk_133 (dk_at dksL_law_45 17 rfl rfl)
theorem dL_law_1144 : decode cL_law 1144 = .ok (.lcmp, 1) := dk_148 (dk_at dksL_law_45 18 rfl rfl)
theorem dL_law_1145 : decode cL_law 1145 = .ok (.ifCond .eq 5, 3) := dk_153 0 5 (dk_at dksL_law_45 19 rfl rfl)
theorem dL_law_1148 : decode cL_law 1148 = .ok (.iconst 0, 1) := dk_3 (dk_at dksL_law_45 22 rfl rfl)
theorem dL_law_1149 : decode cL_law 1149 = .ok (.ireturn, 1) := dk_172 (dk_at dksL_law_45 23 rfl rfl)
theorem dL_law_1150 : decode cL_law 1150 = .ok (.goto 255, 3) := dk_167 0 255 (dk_at dksL_law_46 0 rfl rfl)
theorem dL_law_1153 : decode cL_law 1153 = .ok (.aload_n 1, 1) := dk_43 (dk_at dksL_law_46 3 rfl rfl)
theorem dL_law_1154 : decode cL_law 1154 = .ok (.aload_n 0, 1) := dk_42 (dk_at dksL_law_46 4 rfl rfl)
theorem dL_law_1155 : decode cL_law 1155 = .ok (.iload 4, 2) := dk_21 4 (dk_at dksL_law_46 5 rfl rfl)
theorem dL_law_1157 : decode cL_law 1157 = .ok (.iconst 1, 1) := dk_4 (dk_at dksL_law_46 7 rfl rfl)
theorem dL_law_1158 : decode cL_law 1158 = .ok (.iadd, 1) := dk_96 (dk_at dksL_law_46 8 rfl rfl)
theorem dL_law_1159 : decode cL_law 1159 = .ok (.iaload, 1) := dk_46 (dk_at dksL_law_46 9 rfl rfl)
theorem dL_law_1160 : decode cL_law 1160 = .ok (.aload_n 3, 1) := dk_45 (dk_at dksL_law_46 10 rfl rfl)
theorem dL_law_1161 : decode cL_law 1161 = .ok (.invokestatic 148, 3) := dk_184 0 148 (dk_at dksL_law_46 11 rfl rfl)
theorem dL_law_1164 : decode cL_law 1164 = .ok (.istore 5, 2) := dk_54 5 (dk_at dksL_law_46 14 rfl rfl)
theorem dL_law_1166 : decode cL_law 1166 = .ok (.aload_n 2, 1) := dk_44 (dk_at dksL_law_46 16 rfl rfl)
theorem dL_law_1167 : decode cL_law 1167 = .ok (.aload_n 0, 1) := dk_42 (dk_at dksL_law_46 17 rfl rfl)
theorem dL_law_1168 : decode cL_law 1168 = .ok (.iload 4, 2) := dk_21 4 (dk_at dksL_law_46 18 rfl rfl)
theorem dL_law_1170 : decode cL_law 1170 = .ok (.iconst 1, 1) := dk_4 (dk_at dksL_law_46 20 rfl rfl)
theorem dL_law_1171 : decode cL_law 1171 = .ok (.iadd, 1) := dk_96 (dk_at dksL_law_46 21 rfl rfl)
theorem dL_law_1172 : decode cL_law 1172 = .ok (.iaload, 1) := dk_46 (dk_at dksL_law_46 22 rfl rfl)
theorem dL_law_1173 : decode cL_law 1173 = .ok (.invokevirtual 150, 3) := dk_182 0 150 (dk_at dksL_law_47 0 rfl rfl)
theorem dL_law_1176 : decode cL_law 1176 = .ok (.istore 6, 2) := dk_54 6 (dk_at dksL_law_47 3 rfl rfl)
theorem dL_law_1178 : decode cL_law 1178 = .ok (.aload_n 2, 1) := dk_44 (dk_at dksL_law_47 5 rfl rfl)
theorem dL_law_1179 : decode cL_law 1179 = .ok (.invokevirtual 91, 3) := dk_182 0 91 (dk_at dksL_law_47 6 rfl rfl)
theorem dL_law_1182 : decode cL_law 1182 = .ok (.iload 5, 2) := dk_21 5 (dk_at dksL_law_47 9 rfl rfl)
theorem dL_law_1184 : decode cL_law 1184 = .ok (.if_icmp .eq 5, 3) := dk_159 0 5 (dk_at dksL_law_47 11 rfl rfl)
theorem dL_law_1187 : decode cL_law 1187 = .ok (.iconst 0, 1) := dk_3 (dk_at dksL_law_47 14 rfl rfl)
theorem dL_law_1188 : decode cL_law 1188 = .ok (.ireturn, 1) := dk_172 (dk_at dksL_law_47 15 rfl rfl)
theorem dL_law_1189 : decode cL_law 1189 = .ok (.iload 5, 2) := dk_21 5 (dk_at dksL_law_47 16 rfl rfl)
theorem dL_law_1191 : decode cL_law 1191 = .ok (.ifCond .ne 15, 3) := dk_154 0 15 (dk_at dksL_law_47 18 rfl rfl)
theorem dL_law_1194 : decode cL_law 1194 = .ok (.aload_n 3, 1) := dk_45 (dk_at dksL_law_47 21 rfl rfl)
theorem dL_law_1195 : decode cL_law 1195 = .ok (.iconst 0, 1) := dk_3 (dk_at dksL_law_47 22 rfl rfl)
theorem dL_law_1196 : decode cL_law 1196 = .ok (.laload, 1) := dk_47 (dk_at dksL_law_47 23 rfl rfl)
theorem dL_law_1197 : decode cL_law 1197 = .ok (.iload 6, 2) := dk_21 6 (dk_at dksL_law_48 0 rfl rfl)
theorem dL_law_1199 : decode cL_law 1199 = .ok (.i2l, 1) := dk_133 (dk_at dksL_law_48 2 rfl rfl)
theorem dL_law_1200 : decode cL_law 1200 = .ok (.lcmp, 1) := dk_148 (dk_at dksL_law_48 3 rfl rfl)
theorem dL_law_1201 : decode cL_law 1201 = .ok (.ifCond .eq 5, 3) := dk_153 0 5 (dk_at dksL_law_48 4 rfl rfl)
theorem dL_law_1204 : decode cL_law 1204 = .ok (.iconst 0, 1) := dk_3 (dk_at dksL_law_48 7 rfl rfl)
theorem dL_law_1205 : decode cL_law 1205 = .ok (.ireturn, 1) := dk_172 (dk_at dksL_law_48 8 rfl rfl)
theorem dL_law_1206 : decode cL_law 1206 = .ok (.goto 199, 3) := dk_167 0 199 (dk_at dksL_law_48 9 rfl rfl)
theorem dL_law_1209 : decode cL_law 1209 = .ok (.aload_n 1, 1) := dk_43 (dk_at dksL_law_48 12 rfl rfl)
theorem dL_law_1210 : decode cL_law 1210 = .ok (.aload_n 0, 1) := dk_42 (dk_at dksL_law_48 13 rfl rfl)
theorem dL_law_1211 : decode cL_law 1211 = .ok (.iload 4, 2) := dk_21 4 (dk_at dksL_law_48 14 rfl rfl)
theorem dL_law_1213 : decode cL_law 1213 = .ok (.iconst 1, 1) := dk_4 (dk_at dksL_law_48 16 rfl rfl)
theorem dL_law_1214 : decode cL_law 1214 = .ok (.iadd, 1) := dk_96 (dk_at dksL_law_48 17 rfl rfl)
theorem dL_law_1215 : decode cL_law 1215 = .ok (.iaload, 1) := dk_46 (dk_at dksL_law_48 18 rfl rfl)
theorem dL_law_1216 : decode cL_law 1216 = .ok (.aload_n 3, 1) := dk_45 (dk_at dksL_law_48 19 rfl rfl)
theorem dL_law_1217 : decode cL_law 1217 = .ok (.invokestatic 151, 3) := dk_184 0 151 (dk_at dksL_law_48 20 rfl rfl)
theorem dL_law_1220 : decode cL_law 1220 = .ok (.istore 5, 2) := dk_54 5 (dk_at dksL_law_49 0 rfl rfl)
theorem dL_law_1222 : decode cL_law 1222 = .ok (.aload_n 2, 1) := dk_44 (dk_at dksL_law_49 2 rfl rfl)
theorem dL_law_1223 : decode cL_law 1223 = .ok (.aload_n 0, 1) := dk_42 (dk_at dksL_law_49 3 rfl rfl)
theorem dL_law_1224 : decode cL_law 1224 = .ok (.iload 4, 2) := dk_21 4 (dk_at dksL_law_49 4 rfl rfl)
theorem dL_law_1226 : decode cL_law 1226 = .ok (.iconst 1, 1) := dk_4 (dk_at dksL_law_49 6 rfl rfl)
theorem dL_law_1227 : decode cL_law 1227 = .ok (.iadd, 1) := dk_96 (dk_at dksL_law_49 7 rfl rfl)
theorem dL_law_1228 : decode cL_law 1228 = .ok (.iaload, 1) := dk_46 (dk_at dksL_law_49 8 rfl rfl)
theorem dL_law_1229 : decode cL_law 1229 = .ok (.invokevirtual 153, 3) := dk_182 0 153 (dk_at dksL_law_49 9 rfl rfl)
theorem dL_law_1232 : decode cL_law 1232 = .ok (.istore 6, 2) := dk_54 6 (dk_at dksL_law_49 12 rfl rfl)
theorem dL_law_1234 : decode cL_law 1234 = .ok (.aload_n 2, 1) := dk_44 (dk_at dksL_law_49 14 rfl rfl)
theorem dL_law_1235 : decode cL_law 1235 = .ok (.invokevirtual 91, 3) := dk_182 0 91 (dk_at dksL_law_49 15 rfl rfl)
theorem dL_law_1238 : decode cL_law 1238 = .ok (.iload 5, 2) := dk_21 5 (dk_at dksL_law_49 18 rfl rfl)
theorem dL_law_1240 : decode cL_law 1240 = .ok (.if_icmp .eq 5, 3) := dk_159 0 5 (dk_at dksL_law_49 20 rfl rfl)
theorem dL_law_1243 : decode cL_law 1243 = .ok (.iconst 0, 1) := dk_3 (dk_at dksL_law_49 23 rfl rfl)
theorem dL_law_1244 : decode cL_law 1244 = .ok (.ireturn, 1) := dk_172 (dk_at dksL_law_50 0 rfl rfl)
theorem dL_law_1245 : decode cL_law 1245 = .ok (.iload 5, 2) := dk_21 5 (dk_at dksL_law_50 1 rfl rfl)
theorem dL_law_1247 : decode cL_law 1247 = .ok (.ifCond .ne 15, 3) := dk_154 0 15 (dk_at dksL_law_50 3 rfl rfl)
theorem dL_law_1250 : decode cL_law 1250 = .ok (.aload_n 3, 1) := dk_45 (dk_at dksL_law_50 6 rfl rfl)
theorem dL_law_1251 : decode cL_law 1251 = .ok (.iconst 0, 1) := dk_3 (dk_at dksL_law_50 7 rfl rfl)
theorem dL_law_1252 : decode cL_law 1252 = .ok (.laload, 1) := dk_47 (dk_at dksL_law_50 8 rfl rfl)
theorem dL_law_1253 : decode cL_law 1253 = .ok (.iload 6, 2) := dk_21 6 (dk_at dksL_law_50 9 rfl rfl)
theorem dL_law_1255 : decode cL_law 1255 = .ok (.i2l, 1) := dk_133 (dk_at dksL_law_50 11 rfl rfl)
theorem dL_law_1256 : decode cL_law 1256 = .ok (.lcmp, 1) := dk_148 (dk_at dksL_law_50 12 rfl rfl)
theorem dL_law_1257 : decode cL_law 1257 = .ok (.ifCond .eq 5, 3) := dk_153 0 5 (dk_at dksL_law_50 13 rfl rfl)
theorem dL_law_1260 : decode cL_law 1260 = .ok (.iconst 0, 1) := dk_3 (dk_at dksL_law_50 16 rfl rfl)
theorem dL_law_1261 : decode cL_law 1261 = .ok (.ireturn, 1) := dk_172 (dk_at dksL_law_50 17 rfl rfl)
theorem dL_law_1262 : decode cL_law 1262 = .ok (.goto 143, 3) := dk_167 0 143 (dk_at dksL_law_50 18 rfl rfl)
theorem dL_law_1265 : decode cL_law 1265 = .ok (.aload_n 1, 1) := dk_43 (dk_at dksL_law_50 21 rfl rfl)
theorem dL_law_1266 : decode cL_law 1266 = .ok (.aload_n 0, 1) := dk_42 (dk_at dksL_law_50 22 rfl rfl)
theorem dL_law_1267 : decode cL_law 1267 = .ok (.iload 4, 2) := dk_21 4 (dk_at dksL_law_51 0 rfl rfl)
theorem dL_law_1269 : decode cL_law 1269 = .ok (.iconst 1, 1) := dk_4 (dk_at dksL_law_51 2 rfl rfl)
theorem dL_law_1270 : decode cL_law 1270 = .ok (.iadd, 1) := dk_96 (dk_at dksL_law_51 3 rfl rfl)
theorem dL_law_1271 : decode cL_law 1271 = .ok (.iaload, 1) := dk_46 (dk_at dksL_law_51 4 rfl rfl)
theorem dL_law_1272 : decode cL_law 1272 = .ok (.aload_n 3, 1) := dk_45 (dk_at dksL_law_51 5 rfl rfl)
theorem dL_law_1273 : decode cL_law 1273 = .ok (.invokestatic 154, 3) := dk_184 0 154 (dk_at dksL_law_51 6 rfl rfl)
theorem dL_law_1276 : decode cL_law 1276 = .ok (.istore 5, 2) := dk_54 5 (dk_at dksL_law_51 9 rfl rfl)
theorem dL_law_1278 : decode cL_law 1278 = .ok (.aload_n 2, 1) := dk_44 (dk_at dksL_law_51 11 rfl rfl)
theorem dL_law_1279 : decode cL_law 1279 = .ok (.aload_n 0, 1) := dk_42 (dk_at dksL_law_51 12 rfl rfl)
theorem dL_law_1280 : decode cL_law 1280 = .ok (.iload 4, 2) := dk_21 4 (dk_at dksL_law_51 13 rfl rfl)
theorem dL_law_1282 : decode cL_law 1282 = .ok (.iconst 1, 1) := dk_4 (dk_at dksL_law_51 15 rfl rfl)
theorem dL_law_1283 : decode cL_law 1283 = .ok (.iadd, 1) := dk_96 (dk_at dksL_law_51 16 rfl rfl)
theorem dL_law_1284 : decode cL_law 1284 = .ok (.iaload, 1) := dk_46 (dk_at dksL_law_51 17 rfl rfl)
theorem dL_law_1285 : decode cL_law 1285 = .ok (.invokevirtual 156, 3) := dk_182 0 156 (dk_at dksL_law_51 18 rfl rfl)
theorem dL_law_1288 : decode cL_law 1288 = .ok (.istore 6, 2) := dk_54 6 (dk_at dksL_law_51 21 rfl rfl)
theorem dL_law_1290 : decode cL_law 1290 = .ok (.aload_n 2, 1) := dk_44 (dk_at dksL_law_51 23 rfl rfl)
theorem dL_law_1291 : decode cL_law 1291 = .ok (.invokevirtual 91, 3) := dk_182 0 91 (dk_at dksL_law_52 0 rfl rfl)
theorem dL_law_1294 : decode cL_law 1294 = .ok (.iload 5, 2) := dk_21 5 (dk_at dksL_law_52 3 rfl rfl)
theorem dL_law_1296 : decode cL_law 1296 = .ok (.if_icmp .eq 5, 3) := dk_159 0 5 (dk_at dksL_law_52 5 rfl rfl)
theorem dL_law_1299 : decode cL_law 1299 = .ok (.iconst 0, 1) := dk_3 (dk_at dksL_law_52 8 rfl rfl)
theorem dL_law_1300 : decode cL_law 1300 = .ok (.ireturn, 1) := dk_172 (dk_at dksL_law_52 9 rfl rfl)
theorem dL_law_1301 : decode cL_law 1301 = .ok (.iload 5, 2) := dk_21 5 (dk_at dksL_law_52 10 rfl rfl)
theorem dL_law_1303 : decode cL_law 1303 = .ok (.ifCond .ne 15, 3) := dk_154 0 15 (dk_at dksL_law_52 12 rfl rfl)
theorem dL_law_1306 : decode cL_law 1306 = .ok (.aload_n 3, 1) := dk_45 (dk_at dksL_law_52 15 rfl rfl)
theorem dL_law_1307 : decode cL_law 1307 = .ok (.iconst 0, 1) := dk_3 (dk_at dksL_law_52 16 rfl rfl)
theorem dL_law_1308 : decode cL_law 1308 = .ok (.laload, 1) := dk_47 (dk_at dksL_law_52 17 rfl rfl)
theorem dL_law_1309 : decode cL_law 1309 = .ok (.iload 6, 2) := dk_21 6 (dk_at dksL_law_52 18 rfl rfl)
theorem dL_law_1311 : decode cL_law 1311 = .ok (.i2l, 1) := dk_133 (dk_at dksL_law_52 20 rfl rfl)
theorem dL_law_1312 : decode cL_law 1312 = .ok (.lcmp, 1) := dk_148 (dk_at dksL_law_52 21 rfl rfl)
theorem dL_law_1313 : decode cL_law 1313 = .ok (.ifCond .eq 5, 3) := dk_153 0 5 (dk_at dksL_law_53 0 rfl rfl)
theorem dL_law_1316 : decode cL_law 1316 = .ok (.iconst 0, 1) := dk_3 (dk_at dksL_law_53 3 rfl rfl)
theorem dL_law_1317 : decode cL_law 1317 = .ok (.ireturn, 1) := dk_172 (dk_at dksL_law_53 4 rfl rfl)
theorem dL_law_1318 : decode cL_law 1318 = .ok (.goto 87, 3) := dk_167 0 87 (dk_at dksL_law_53 5 rfl rfl)
theorem dL_law_1321 : decode cL_law 1321 = .ok (.aload_n 1, 1) := dk_43 (dk_at dksL_law_53 8 rfl rfl)
theorem dL_law_1322 : decode cL_law 1322 = .ok (.invokevirtual 157, 3) := dk_182 0 157 (dk_at dksL_law_53 9 rfl rfl)
theorem dL_law_1325 : decode cL_law 1325 = .ok (.aload_n 2, 1) := dk_44 (dk_at dksL_law_53 12 rfl rfl)
theorem dL_law_1326 : decode cL_law 1326 = .ok (.invokevirtual 160, 3) := dk_182 0 160 (dk_at dksL_law_53 13 rfl rfl)
theorem dL_law_1329 : decode cL_law 1329 = .ok (.if_icmp .eq 76, 3) := dk_159 0 76 (dk_at dksL_law_53 16 rfl rfl)
theorem dL_law_1332 : decode cL_law 1332 = .ok (.iconst 0, 1) := dk_3 (dk_at dksL_law_53 19 rfl rfl)
theorem dL_law_1333 : decode cL_law 1333 = .ok (.ireturn, 1) := dk_172 (dk_at dksL_law_53 20 rfl rfl)
theorem dL_law_1334 : decode cL_law 1334 = .ok (.aload_n 1, 1) := dk_43 (dk_at dksL_law_53 21 rfl rfl)
theorem dL_law_1335 : decode cL_law 1335 = .ok (.invokevirtual 161, 3) := dk_182 0 161 (dk_at dksL_law_54 0 rfl rfl)
theorem dL_law_1338 : decode cL_law 1338 = .ok (.aload_n 2, 1) := dk_44 (dk_at dksL_law_54 3 rfl rfl)
theorem dL_law_1339 : decode cL_law 1339 = .ok (.invokevirtual 164, 3) := dk_182 0 164 (dk_at dksL_law_54 4 rfl rfl)
theorem dL_law_1342 : decode cL_law 1342 = .ok (.if_icmp .eq 63, 3) := dk_159 0 63 (dk_at dksL_law_54 7 rfl rfl)
theorem dL_law_1345 : decode cL_law 1345 = .ok (.iconst 0, 1) := dk_3 (dk_at dksL_law_54 10 rfl rfl)
theorem dL_law_1346 : decode cL_law 1346 = .ok (.ireturn, 1) := dk_172 (dk_at dksL_law_54 11 rfl rfl)
theorem dL_law_1347 : decode cL_law 1347 = .ok (.aload_n 1, 1) := dk_43 (dk_at dksL_law_54 12 rfl rfl)
theorem dL_law_1348 : decode cL_law 1348 = .ok (.aload_n 3, 1) := dk_45 (dk_at dksL_law_54 13 rfl rfl)
theorem dL_law_1349 : decode cL_law 1349 = .ok (.invokestatic 165, 3) := dk_184 0 165 (dk_at dksL_law_54 14 rfl rfl)
theorem dL_law_1352 : decode cL_law 1352 = .ok (.istore 5, 2) := dk_54 5 (dk_at dksL_law_54 17 rfl rfl)
theorem dL_law_1354 : decode cL_law 1354 = .ok (.aload_n 2, 1) := dk_44 (dk_at dksL_law_54 19 rfl rfl)
theorem dL_law_1355 : decode cL_law 1355 = .ok (.invokevirtual 167, 3) := dk_182 0 167 (dk_at dksL_law_54 20 rfl rfl)
theorem dL_law_1358 : decode cL_law 1358 = .ok (.istore 6, 2) := dk_54 6 (dk_at dksL_law_55 0 rfl rfl)
theorem dL_law_1360 : decode cL_law 1360 = .ok (.aload_n 2, 1) := dk_44 (dk_at dksL_law_55 2 rfl rfl)
theorem dL_law_1361 : decode cL_law 1361 = .ok (.invokevirtual 91, 3) := dk_182 0 91 (dk_at dksL_law_55 3 rfl rfl)
theorem dL_law_1364 : decode cL_law 1364 = .ok (.iload 5, 2) := dk_21 5 (dk_at dksL_law_55 6 rfl rfl)
theorem dL_law_1366 : decode cL_law 1366 = .ok (.if_icmp .eq 5, 3) := dk_159 0 5 (dk_at dksL_law_55 8 rfl rfl)
theorem dL_law_1369 : decode cL_law 1369 = .ok (.iconst 0, 1) := dk_3 (dk_at dksL_law_55 11 rfl rfl)
theorem dL_law_1370 : decode cL_law 1370 = .ok (.ireturn, 1) := dk_172 (dk_at dksL_law_55 12 rfl rfl)
theorem dL_law_1371 : decode cL_law 1371 = .ok (.iload 5, 2) := dk_21 5 (dk_at dksL_law_55 13 rfl rfl)
theorem dL_law_1373 : decode cL_law 1373 = .ok (.ifCond .ne 15, 3) := dk_154 0 15 (dk_at dksL_law_55 15 rfl rfl)
theorem dL_law_1376 : decode cL_law 1376 = .ok (.aload_n 3, 1) := dk_45 (dk_at dksL_law_55 18 rfl rfl)
theorem dL_law_1377 : decode cL_law 1377 = .ok (.iconst 0, 1) := dk_3 (dk_at dksL_law_55 19 rfl rfl)
theorem dL_law_1378 : decode cL_law 1378 = .ok (.laload, 1) := dk_47 (dk_at dksL_law_55 20 rfl rfl)
theorem dL_law_1379 : decode cL_law 1379 = .ok (.iload 6, 2) := dk_21 6 (dk_at dksL_law_55 21 rfl rfl)
theorem dL_law_1381 : decode cL_law 1381 = .ok (.i2l, 1) := dk_133 (dk_at dksL_law_55 23 rfl rfl)
theorem dL_law_1382 : decode cL_law 1382 = .ok (.lcmp, 1) := dk_148 (dk_at dksL_law_56 0 rfl rfl)
theorem dL_law_1383 : decode cL_law 1383 = .ok (.ifCond .eq 5, 3) := dk_153 0 5 (dk_at dksL_law_56 1 rfl rfl)
theorem dL_law_1386 : decode cL_law 1386 = .ok (.iconst 0, 1) := dk_3 (dk_at dksL_law_56 4 rfl rfl)
theorem dL_law_1387 : decode cL_law 1387 = .ok (.ireturn, 1) := dk_172 (dk_at dksL_law_56 5 rfl rfl)
theorem dL_law_1388 : decode cL_law 1388 = .ok (.goto 17, 3) := dk_167 0 17 (dk_at dksL_law_56 6 rfl rfl)
theorem dL_law_1391 : decode cL_law 1391 = .ok (.aload_n 1, 1) := dk_43 (dk_at dksL_law_56 9 rfl rfl)
theorem dL_law_1392 : decode cL_law 1392 = .ok (.invokevirtual 168, 3) := dk_182 0 168 (dk_at dksL_law_56 10 rfl rfl)
theorem dL_law_1395 : decode cL_law 1395 = .ok (.aload_n 2, 1) := dk_44 (dk_at dksL_law_56 13 rfl rfl)
theorem dL_law_1396 : decode cL_law 1396 = .ok (.invokevirtual 172, 3) := dk_182 0 172 (dk_at dksL_law_56 14 rfl rfl)
theorem dL_law_1399 : decode cL_law 1399 = .ok (.lcmp, 1) := dk_148 (dk_at dksL_law_56 17 rfl rfl)
theorem dL_law_1400 : decode cL_law 1400 = .ok (.ifCond .eq 5, 3) := dk_153 0 5 (dk_at dksL_law_56 18 rfl rfl)
theorem dL_law_1403 : decode cL_law 1403 = .ok (.iconst 0, 1) := dk_3 (dk_at dksL_law_56 21 rfl rfl)
theorem dL_law_1404 : decode cL_law 1404 = .ok (.ireturn, 1) := dk_172 (dk_at dksL_law_56 22 rfl rfl)
theorem dL_law_1405 : decode cL_law 1405 = .ok (.iinc 4 3, 3) := dk_132 4 3 (dk_at dksL_law_57 0 rfl rfl)
theorem dL_law_1408 : decode cL_law 1408 = .ok (.goto (-1385), 3) := dk_167 250 151 (dk_at dksL_law_57 3 rfl rfl)
theorem dL_law_1411 : decode cL_law 1411 = .ok (.iconst 1, 1) := dk_4 (dk_at dksL_law_57 6 rfl rfl)
theorem dL_law_1412 : decode cL_law 1412 = .ok (.ireturn, 1) := dk_172 (dk_at dksL_law_57 7 rfl rfl)
/-! PageGardenLaw.law([I)Z -/
abbrev M_L_law (E : gE) : gM := (RX0, cL_law, 7, ret, "law", [], 113, (gk E).1, 0, (gk E).1 + 1200384, 5487786)
abbrev W_L_law (E : gE) (r : Int32) (pc : Nat) (L : List (Nat × gV)) (st : List gV) (s : gS) : Prop := gW E (M_L_law E) (gQl E r) pc L st s
noncomputable def f_L_law_1405 (κ : gK) (F : Nat) (k23 : Option Nat → Option Nat → Option Nat → Option Nat → Int32 → gS → Option (Int32 × gS)) (l0 : Option Nat) (l1 : Option Nat) (l2 : Option Nat) (l3 : Option Nat) (l4 : Int32) (s : gS) : Option (Int32 × gS) :=
  k23 l0 l1 l2 l3 (l4 + (3 : Int32)) s
set_option maxHeartbeats 4000000 in
theorem w_L_law_1405 {E : gE} (hX : gXF E) {F : Nat} {r : Int32} {s' : gS} {k23 : Option Nat → Option Nat → Option Nat → Option Nat → Int32 → gS → Option (Int32 × gS)} (hk23 : ∀ (l0 : Option Nat) (l1 : Option Nat) (l2 : Option Nat) (l3 : Option Nat) (l4 : Int32) (s : gS), k23 l0 l1 l2 l3 l4 s = some (r, s') → W_L_law E r 23 [(0, vR l0), (1, vR l1), (2, vR l2), (3, vR l3), (4, vI l4)] [] s) : ∀ (l0 : Option Nat) (l1 : Option Nat) (l2 : Option Nat) (l3 : Option Nat) (l4 : Int32)  (s : gS), f_L_law_1405 (gk E) F k23 l0 l1 l2 l3 l4 s = some (r, s') → W_L_law E r 1405 [(0, vR l0), (1, vR l1), (2, vR l2), (3, vR l3), (4, vI l4)] [] s := by
  intro l0 l1 l2 l3 l4 s hB
  unfold f_L_law_1405 at hB
  refine gw_iinc (w := (3 : Int32)) (L' := [(4, vI (l4 + (3 : Int32))), (0, vR l0), (1, vR l1), (2, vR l2), (3, vR l3)]) 4 rfl (by decide) (Nat.le_of_ble_eq_true rfl) rfl dL_law_1405 ?_
  refine gw_goto (tgt := 23) dL_law_1408 (by decide) ?_
  exact gw_sub [1, 2, 3, 4, 0] rfl (hk23 _ _ _ _ _ _ hB)
noncomputable def f_L_law_193 (κ : gK) (F : Nat) (k23 : Option Nat → Option Nat → Option Nat → Option Nat → Int32 → gS → Option (Int32 × gS)) (l0 : Option Nat) (l1 : Option Nat) (l2 : Option Nat) (l3 : Option Nat) (l4 : Int32) (s : gS) : Option (Int32 × gS) :=
  f_L_law_1405 κ F k23 l0 l1 l2 l3 l4 s
set_option maxHeartbeats 4000000 in
theorem w_L_law_193 {E : gE} (hX : gXF E) {F : Nat} {r : Int32} {s' : gS} {k23 : Option Nat → Option Nat → Option Nat → Option Nat → Int32 → gS → Option (Int32 × gS)} (hk23 : ∀ (l0 : Option Nat) (l1 : Option Nat) (l2 : Option Nat) (l3 : Option Nat) (l4 : Int32) (s : gS), k23 l0 l1 l2 l3 l4 s = some (r, s') → W_L_law E r 23 [(0, vR l0), (1, vR l1), (2, vR l2), (3, vR l3), (4, vI l4)] [] s) : ∀ (l0 : Option Nat) (l1 : Option Nat) (l2 : Option Nat) (l3 : Option Nat) (l4 : Int32)  (s : gS), f_L_law_193 (gk E) F k23 l0 l1 l2 l3 l4 s = some (r, s') → W_L_law E r 193 [(0, vR l0), (1, vR l1), (2, vR l2), (3, vR l3), (4, vI l4)] [] s := by
  intro l0 l1 l2 l3 l4 s hB
  unfold f_L_law_193 at hB
  refine gw_goto (tgt := 1405) dL_law_193 (by decide) ?_
  exact gw_sub [0, 1, 2, 3, 4] rfl (w_L_law_1405 hX hk23 _ _ _ _ _ _ hB)
noncomputable def f_L_law_261 (κ : gK) (F : Nat) (k23 : Option Nat → Option Nat → Option Nat → Option Nat → Int32 → gS → Option (Int32 × gS)) (l0 : Option Nat) (l1 : Option Nat) (l2 : Option Nat) (l3 : Option Nat) (l4 : Int32) (s : gS) : Option (Int32 × gS) :=
  f_L_law_1405 κ F k23 l0 l1 l2 l3 l4 s
set_option maxHeartbeats 4000000 in
theorem w_L_law_261 {E : gE} (hX : gXF E) {F : Nat} {r : Int32} {s' : gS} {k23 : Option Nat → Option Nat → Option Nat → Option Nat → Int32 → gS → Option (Int32 × gS)} (hk23 : ∀ (l0 : Option Nat) (l1 : Option Nat) (l2 : Option Nat) (l3 : Option Nat) (l4 : Int32) (s : gS), k23 l0 l1 l2 l3 l4 s = some (r, s') → W_L_law E r 23 [(0, vR l0), (1, vR l1), (2, vR l2), (3, vR l3), (4, vI l4)] [] s) : ∀ (l0 : Option Nat) (l1 : Option Nat) (l2 : Option Nat) (l3 : Option Nat) (l4 : Int32)  (s : gS), f_L_law_261 (gk E) F k23 l0 l1 l2 l3 l4 s = some (r, s') → W_L_law E r 261 [(0, vR l0), (1, vR l1), (2, vR l2), (3, vR l3), (4, vI l4)] [] s := by
  intro l0 l1 l2 l3 l4 s hB
  unfold f_L_law_261 at hB
  refine gw_goto (tgt := 1405) dL_law_261 (by decide) ?_
  exact gw_sub [0, 1, 2, 3, 4] rfl (w_L_law_1405 hX hk23 _ _ _ _ _ _ hB)
noncomputable def f_L_law_317 (κ : gK) (F : Nat) (k23 : Option Nat → Option Nat → Option Nat → Option Nat → Int32 → gS → Option (Int32 × gS)) (l0 : Option Nat) (l1 : Option Nat) (l2 : Option Nat) (l3 : Option Nat) (l4 : Int32) (s : gS) : Option (Int32 × gS) :=
  f_L_law_1405 κ F k23 l0 l1 l2 l3 l4 s
set_option maxHeartbeats 4000000 in
theorem w_L_law_317 {E : gE} (hX : gXF E) {F : Nat} {r : Int32} {s' : gS} {k23 : Option Nat → Option Nat → Option Nat → Option Nat → Int32 → gS → Option (Int32 × gS)} (hk23 : ∀ (l0 : Option Nat) (l1 : Option Nat) (l2 : Option Nat) (l3 : Option Nat) (l4 : Int32) (s : gS), k23 l0 l1 l2 l3 l4 s = some (r, s') → W_L_law E r 23 [(0, vR l0), (1, vR l1), (2, vR l2), (3, vR l3), (4, vI l4)] [] s) : ∀ (l0 : Option Nat) (l1 : Option Nat) (l2 : Option Nat) (l3 : Option Nat) (l4 : Int32)  (s : gS), f_L_law_317 (gk E) F k23 l0 l1 l2 l3 l4 s = some (r, s') → W_L_law E r 317 [(0, vR l0), (1, vR l1), (2, vR l2), (3, vR l3), (4, vI l4)] [] s := by
  intro l0 l1 l2 l3 l4 s hB
  unfold f_L_law_317 at hB
  refine gw_goto (tgt := 1405) dL_law_317 (by decide) ?_
  exact gw_sub [0, 1, 2, 3, 4] rfl (w_L_law_1405 hX hk23 _ _ _ _ _ _ hB)
noncomputable def f_L_law_373 (κ : gK) (F : Nat) (k23 : Option Nat → Option Nat → Option Nat → Option Nat → Int32 → gS → Option (Int32 × gS)) (l0 : Option Nat) (l1 : Option Nat) (l2 : Option Nat) (l3 : Option Nat) (l4 : Int32) (s : gS) : Option (Int32 × gS) :=
  f_L_law_1405 κ F k23 l0 l1 l2 l3 l4 s
set_option maxHeartbeats 4000000 in
theorem w_L_law_373 {E : gE} (hX : gXF E) {F : Nat} {r : Int32} {s' : gS} {k23 : Option Nat → Option Nat → Option Nat → Option Nat → Int32 → gS → Option (Int32 × gS)} (hk23 : ∀ (l0 : Option Nat) (l1 : Option Nat) (l2 : Option Nat) (l3 : Option Nat) (l4 : Int32) (s : gS), k23 l0 l1 l2 l3 l4 s = some (r, s') → W_L_law E r 23 [(0, vR l0), (1, vR l1), (2, vR l2), (3, vR l3), (4, vI l4)] [] s) : ∀ (l0 : Option Nat) (l1 : Option Nat) (l2 : Option Nat) (l3 : Option Nat) (l4 : Int32)  (s : gS), f_L_law_373 (gk E) F k23 l0 l1 l2 l3 l4 s = some (r, s') → W_L_law E r 373 [(0, vR l0), (1, vR l1), (2, vR l2), (3, vR l3), (4, vI l4)] [] s := by
  intro l0 l1 l2 l3 l4 s hB
  unfold f_L_law_373 at hB
  refine gw_goto (tgt := 1405) dL_law_373 (by decide) ?_
  exact gw_sub [0, 1, 2, 3, 4] rfl (w_L_law_1405 hX hk23 _ _ _ _ _ _ hB)
noncomputable def f_L_law_417 (κ : gK) (F : Nat) (k23 : Option Nat → Option Nat → Option Nat → Option Nat → Int32 → gS → Option (Int32 × gS)) (l0 : Option Nat) (l1 : Option Nat) (l2 : Option Nat) (l3 : Option Nat) (l4 : Int32) (s : gS) : Option (Int32 × gS) :=
  f_L_law_1405 κ F k23 l0 l1 l2 l3 l4 s
set_option maxHeartbeats 4000000 in
theorem w_L_law_417 {E : gE} (hX : gXF E) {F : Nat} {r : Int32} {s' : gS} {k23 : Option Nat → Option Nat → Option Nat → Option Nat → Int32 → gS → Option (Int32 × gS)} (hk23 : ∀ (l0 : Option Nat) (l1 : Option Nat) (l2 : Option Nat) (l3 : Option Nat) (l4 : Int32) (s : gS), k23 l0 l1 l2 l3 l4 s = some (r, s') → W_L_law E r 23 [(0, vR l0), (1, vR l1), (2, vR l2), (3, vR l3), (4, vI l4)] [] s) : ∀ (l0 : Option Nat) (l1 : Option Nat) (l2 : Option Nat) (l3 : Option Nat) (l4 : Int32)  (s : gS), f_L_law_417 (gk E) F k23 l0 l1 l2 l3 l4 s = some (r, s') → W_L_law E r 417 [(0, vR l0), (1, vR l1), (2, vR l2), (3, vR l3), (4, vI l4)] [] s := by
  intro l0 l1 l2 l3 l4 s hB
  unfold f_L_law_417 at hB
  refine gw_goto (tgt := 1405) dL_law_417 (by decide) ?_
  exact gw_sub [0, 1, 2, 3, 4] rfl (w_L_law_1405 hX hk23 _ _ _ _ _ _ hB)
noncomputable def f_L_law_461 (κ : gK) (F : Nat) (k23 : Option Nat → Option Nat → Option Nat → Option Nat → Int32 → gS → Option (Int32 × gS)) (l0 : Option Nat) (l1 : Option Nat) (l2 : Option Nat) (l3 : Option Nat) (l4 : Int32) (s : gS) : Option (Int32 × gS) :=
  f_L_law_1405 κ F k23 l0 l1 l2 l3 l4 s
set_option maxHeartbeats 4000000 in
theorem w_L_law_461 {E : gE} (hX : gXF E) {F : Nat} {r : Int32} {s' : gS} {k23 : Option Nat → Option Nat → Option Nat → Option Nat → Int32 → gS → Option (Int32 × gS)} (hk23 : ∀ (l0 : Option Nat) (l1 : Option Nat) (l2 : Option Nat) (l3 : Option Nat) (l4 : Int32) (s : gS), k23 l0 l1 l2 l3 l4 s = some (r, s') → W_L_law E r 23 [(0, vR l0), (1, vR l1), (2, vR l2), (3, vR l3), (4, vI l4)] [] s) : ∀ (l0 : Option Nat) (l1 : Option Nat) (l2 : Option Nat) (l3 : Option Nat) (l4 : Int32)  (s : gS), f_L_law_461 (gk E) F k23 l0 l1 l2 l3 l4 s = some (r, s') → W_L_law E r 461 [(0, vR l0), (1, vR l1), (2, vR l2), (3, vR l3), (4, vI l4)] [] s := by
  intro l0 l1 l2 l3 l4 s hB
  unfold f_L_law_461 at hB
  refine gw_goto (tgt := 1405) dL_law_461 (by decide) ?_
  exact gw_sub [0, 1, 2, 3, 4] rfl (w_L_law_1405 hX hk23 _ _ _ _ _ _ hB)
noncomputable def f_L_law_517 (κ : gK) (F : Nat) (k23 : Option Nat → Option Nat → Option Nat → Option Nat → Int32 → gS → Option (Int32 × gS)) (l0 : Option Nat) (l1 : Option Nat) (l2 : Option Nat) (l3 : Option Nat) (l4 : Int32) (s : gS) : Option (Int32 × gS) :=
  f_L_law_1405 κ F k23 l0 l1 l2 l3 l4 s
set_option maxHeartbeats 4000000 in
theorem w_L_law_517 {E : gE} (hX : gXF E) {F : Nat} {r : Int32} {s' : gS} {k23 : Option Nat → Option Nat → Option Nat → Option Nat → Int32 → gS → Option (Int32 × gS)} (hk23 : ∀ (l0 : Option Nat) (l1 : Option Nat) (l2 : Option Nat) (l3 : Option Nat) (l4 : Int32) (s : gS), k23 l0 l1 l2 l3 l4 s = some (r, s') → W_L_law E r 23 [(0, vR l0), (1, vR l1), (2, vR l2), (3, vR l3), (4, vI l4)] [] s) : ∀ (l0 : Option Nat) (l1 : Option Nat) (l2 : Option Nat) (l3 : Option Nat) (l4 : Int32)  (s : gS), f_L_law_517 (gk E) F k23 l0 l1 l2 l3 l4 s = some (r, s') → W_L_law E r 517 [(0, vR l0), (1, vR l1), (2, vR l2), (3, vR l3), (4, vI l4)] [] s := by
  intro l0 l1 l2 l3 l4 s hB
  unfold f_L_law_517 at hB
  refine gw_goto (tgt := 1405) dL_law_517 (by decide) ?_
  exact gw_sub [0, 1, 2, 3, 4] rfl (w_L_law_1405 hX hk23 _ _ _ _ _ _ hB)
noncomputable def f_L_law_573 (κ : gK) (F : Nat) (k23 : Option Nat → Option Nat → Option Nat → Option Nat → Int32 → gS → Option (Int32 × gS)) (l0 : Option Nat) (l1 : Option Nat) (l2 : Option Nat) (l3 : Option Nat) (l4 : Int32) (s : gS) : Option (Int32 × gS) :=
  f_L_law_1405 κ F k23 l0 l1 l2 l3 l4 s
set_option maxHeartbeats 4000000 in
theorem w_L_law_573 {E : gE} (hX : gXF E) {F : Nat} {r : Int32} {s' : gS} {k23 : Option Nat → Option Nat → Option Nat → Option Nat → Int32 → gS → Option (Int32 × gS)} (hk23 : ∀ (l0 : Option Nat) (l1 : Option Nat) (l2 : Option Nat) (l3 : Option Nat) (l4 : Int32) (s : gS), k23 l0 l1 l2 l3 l4 s = some (r, s') → W_L_law E r 23 [(0, vR l0), (1, vR l1), (2, vR l2), (3, vR l3), (4, vI l4)] [] s) : ∀ (l0 : Option Nat) (l1 : Option Nat) (l2 : Option Nat) (l3 : Option Nat) (l4 : Int32)  (s : gS), f_L_law_573 (gk E) F k23 l0 l1 l2 l3 l4 s = some (r, s') → W_L_law E r 573 [(0, vR l0), (1, vR l1), (2, vR l2), (3, vR l3), (4, vI l4)] [] s := by
  intro l0 l1 l2 l3 l4 s hB
  unfold f_L_law_573 at hB
  refine gw_goto (tgt := 1405) dL_law_573 (by decide) ?_
  exact gw_sub [0, 1, 2, 3, 4] rfl (w_L_law_1405 hX hk23 _ _ _ _ _ _ hB)
noncomputable def f_L_law_629 (κ : gK) (F : Nat) (k23 : Option Nat → Option Nat → Option Nat → Option Nat → Int32 → gS → Option (Int32 × gS)) (l0 : Option Nat) (l1 : Option Nat) (l2 : Option Nat) (l3 : Option Nat) (l4 : Int32) (s : gS) : Option (Int32 × gS) :=
  f_L_law_1405 κ F k23 l0 l1 l2 l3 l4 s
set_option maxHeartbeats 4000000 in
theorem w_L_law_629 {E : gE} (hX : gXF E) {F : Nat} {r : Int32} {s' : gS} {k23 : Option Nat → Option Nat → Option Nat → Option Nat → Int32 → gS → Option (Int32 × gS)} (hk23 : ∀ (l0 : Option Nat) (l1 : Option Nat) (l2 : Option Nat) (l3 : Option Nat) (l4 : Int32) (s : gS), k23 l0 l1 l2 l3 l4 s = some (r, s') → W_L_law E r 23 [(0, vR l0), (1, vR l1), (2, vR l2), (3, vR l3), (4, vI l4)] [] s) : ∀ (l0 : Option Nat) (l1 : Option Nat) (l2 : Option Nat) (l3 : Option Nat) (l4 : Int32)  (s : gS), f_L_law_629 (gk E) F k23 l0 l1 l2 l3 l4 s = some (r, s') → W_L_law E r 629 [(0, vR l0), (1, vR l1), (2, vR l2), (3, vR l3), (4, vI l4)] [] s := by
  intro l0 l1 l2 l3 l4 s hB
  unfold f_L_law_629 at hB
  refine gw_goto (tgt := 1405) dL_law_629 (by decide) ?_
  exact gw_sub [0, 1, 2, 3, 4] rfl (w_L_law_1405 hX hk23 _ _ _ _ _ _ hB)
noncomputable def f_L_law_697 (κ : gK) (F : Nat) (k23 : Option Nat → Option Nat → Option Nat → Option Nat → Int32 → gS → Option (Int32 × gS)) (l0 : Option Nat) (l1 : Option Nat) (l2 : Option Nat) (l3 : Option Nat) (l4 : Int32) (s : gS) : Option (Int32 × gS) :=
  f_L_law_1405 κ F k23 l0 l1 l2 l3 l4 s
set_option maxHeartbeats 4000000 in
theorem w_L_law_697 {E : gE} (hX : gXF E) {F : Nat} {r : Int32} {s' : gS} {k23 : Option Nat → Option Nat → Option Nat → Option Nat → Int32 → gS → Option (Int32 × gS)} (hk23 : ∀ (l0 : Option Nat) (l1 : Option Nat) (l2 : Option Nat) (l3 : Option Nat) (l4 : Int32) (s : gS), k23 l0 l1 l2 l3 l4 s = some (r, s') → W_L_law E r 23 [(0, vR l0), (1, vR l1), (2, vR l2), (3, vR l3), (4, vI l4)] [] s) : ∀ (l0 : Option Nat) (l1 : Option Nat) (l2 : Option Nat) (l3 : Option Nat) (l4 : Int32)  (s : gS), f_L_law_697 (gk E) F k23 l0 l1 l2 l3 l4 s = some (r, s') → W_L_law E r 697 [(0, vR l0), (1, vR l1), (2, vR l2), (3, vR l3), (4, vI l4)] [] s := by
  intro l0 l1 l2 l3 l4 s hB
  unfold f_L_law_697 at hB
  refine gw_goto (tgt := 1405) dL_law_697 (by decide) ?_
  exact gw_sub [0, 1, 2, 3, 4] rfl (w_L_law_1405 hX hk23 _ _ _ _ _ _ hB)
noncomputable def f_L_law_765 (κ : gK) (F : Nat) (k23 : Option Nat → Option Nat → Option Nat → Option Nat → Int32 → gS → Option (Int32 × gS)) (l0 : Option Nat) (l1 : Option Nat) (l2 : Option Nat) (l3 : Option Nat) (l4 : Int32) (s : gS) : Option (Int32 × gS) :=
  f_L_law_1405 κ F k23 l0 l1 l2 l3 l4 s
set_option maxHeartbeats 4000000 in
theorem w_L_law_765 {E : gE} (hX : gXF E) {F : Nat} {r : Int32} {s' : gS} {k23 : Option Nat → Option Nat → Option Nat → Option Nat → Int32 → gS → Option (Int32 × gS)} (hk23 : ∀ (l0 : Option Nat) (l1 : Option Nat) (l2 : Option Nat) (l3 : Option Nat) (l4 : Int32) (s : gS), k23 l0 l1 l2 l3 l4 s = some (r, s') → W_L_law E r 23 [(0, vR l0), (1, vR l1), (2, vR l2), (3, vR l3), (4, vI l4)] [] s) : ∀ (l0 : Option Nat) (l1 : Option Nat) (l2 : Option Nat) (l3 : Option Nat) (l4 : Int32)  (s : gS), f_L_law_765 (gk E) F k23 l0 l1 l2 l3 l4 s = some (r, s') → W_L_law E r 765 [(0, vR l0), (1, vR l1), (2, vR l2), (3, vR l3), (4, vI l4)] [] s := by
  intro l0 l1 l2 l3 l4 s hB
  unfold f_L_law_765 at hB
  refine gw_goto (tgt := 1405) dL_law_765 (by decide) ?_
  exact gw_sub [0, 1, 2, 3, 4] rfl (w_L_law_1405 hX hk23 _ _ _ _ _ _ hB)
noncomputable def f_L_law_833 (κ : gK) (F : Nat) (k23 : Option Nat → Option Nat → Option Nat → Option Nat → Int32 → gS → Option (Int32 × gS)) (l0 : Option Nat) (l1 : Option Nat) (l2 : Option Nat) (l3 : Option Nat) (l4 : Int32) (s : gS) : Option (Int32 × gS) :=
  f_L_law_1405 κ F k23 l0 l1 l2 l3 l4 s
set_option maxHeartbeats 4000000 in
theorem w_L_law_833 {E : gE} (hX : gXF E) {F : Nat} {r : Int32} {s' : gS} {k23 : Option Nat → Option Nat → Option Nat → Option Nat → Int32 → gS → Option (Int32 × gS)} (hk23 : ∀ (l0 : Option Nat) (l1 : Option Nat) (l2 : Option Nat) (l3 : Option Nat) (l4 : Int32) (s : gS), k23 l0 l1 l2 l3 l4 s = some (r, s') → W_L_law E r 23 [(0, vR l0), (1, vR l1), (2, vR l2), (3, vR l3), (4, vI l4)] [] s) : ∀ (l0 : Option Nat) (l1 : Option Nat) (l2 : Option Nat) (l3 : Option Nat) (l4 : Int32)  (s : gS), f_L_law_833 (gk E) F k23 l0 l1 l2 l3 l4 s = some (r, s') → W_L_law E r 833 [(0, vR l0), (1, vR l1), (2, vR l2), (3, vR l3), (4, vI l4)] [] s := by
  intro l0 l1 l2 l3 l4 s hB
  unfold f_L_law_833 at hB
  refine gw_goto (tgt := 1405) dL_law_833 (by decide) ?_
  exact gw_sub [0, 1, 2, 3, 4] rfl (w_L_law_1405 hX hk23 _ _ _ _ _ _ hB)
noncomputable def f_L_law_901 (κ : gK) (F : Nat) (k23 : Option Nat → Option Nat → Option Nat → Option Nat → Int32 → gS → Option (Int32 × gS)) (l0 : Option Nat) (l1 : Option Nat) (l2 : Option Nat) (l3 : Option Nat) (l4 : Int32) (s : gS) : Option (Int32 × gS) :=
  f_L_law_1405 κ F k23 l0 l1 l2 l3 l4 s
set_option maxHeartbeats 4000000 in
theorem w_L_law_901 {E : gE} (hX : gXF E) {F : Nat} {r : Int32} {s' : gS} {k23 : Option Nat → Option Nat → Option Nat → Option Nat → Int32 → gS → Option (Int32 × gS)} (hk23 : ∀ (l0 : Option Nat) (l1 : Option Nat) (l2 : Option Nat) (l3 : Option Nat) (l4 : Int32) (s : gS), k23 l0 l1 l2 l3 l4 s = some (r, s') → W_L_law E r 23 [(0, vR l0), (1, vR l1), (2, vR l2), (3, vR l3), (4, vI l4)] [] s) : ∀ (l0 : Option Nat) (l1 : Option Nat) (l2 : Option Nat) (l3 : Option Nat) (l4 : Int32)  (s : gS), f_L_law_901 (gk E) F k23 l0 l1 l2 l3 l4 s = some (r, s') → W_L_law E r 901 [(0, vR l0), (1, vR l1), (2, vR l2), (3, vR l3), (4, vI l4)] [] s := by
  intro l0 l1 l2 l3 l4 s hB
  unfold f_L_law_901 at hB
  refine gw_goto (tgt := 1405) dL_law_901 (by decide) ?_
  exact gw_sub [0, 1, 2, 3, 4] rfl (w_L_law_1405 hX hk23 _ _ _ _ _ _ hB)
noncomputable def f_L_law_969 (κ : gK) (F : Nat) (k23 : Option Nat → Option Nat → Option Nat → Option Nat → Int32 → gS → Option (Int32 × gS)) (l0 : Option Nat) (l1 : Option Nat) (l2 : Option Nat) (l3 : Option Nat) (l4 : Int32) (s : gS) : Option (Int32 × gS) :=
  f_L_law_1405 κ F k23 l0 l1 l2 l3 l4 s
set_option maxHeartbeats 4000000 in
theorem w_L_law_969 {E : gE} (hX : gXF E) {F : Nat} {r : Int32} {s' : gS} {k23 : Option Nat → Option Nat → Option Nat → Option Nat → Int32 → gS → Option (Int32 × gS)} (hk23 : ∀ (l0 : Option Nat) (l1 : Option Nat) (l2 : Option Nat) (l3 : Option Nat) (l4 : Int32) (s : gS), k23 l0 l1 l2 l3 l4 s = some (r, s') → W_L_law E r 23 [(0, vR l0), (1, vR l1), (2, vR l2), (3, vR l3), (4, vI l4)] [] s) : ∀ (l0 : Option Nat) (l1 : Option Nat) (l2 : Option Nat) (l3 : Option Nat) (l4 : Int32)  (s : gS), f_L_law_969 (gk E) F k23 l0 l1 l2 l3 l4 s = some (r, s') → W_L_law E r 969 [(0, vR l0), (1, vR l1), (2, vR l2), (3, vR l3), (4, vI l4)] [] s := by
  intro l0 l1 l2 l3 l4 s hB
  unfold f_L_law_969 at hB
  refine gw_goto (tgt := 1405) dL_law_969 (by decide) ?_
  exact gw_sub [0, 1, 2, 3, 4] rfl (w_L_law_1405 hX hk23 _ _ _ _ _ _ hB)
noncomputable def f_L_law_1025 (κ : gK) (F : Nat) (k23 : Option Nat → Option Nat → Option Nat → Option Nat → Int32 → gS → Option (Int32 × gS)) (l0 : Option Nat) (l1 : Option Nat) (l2 : Option Nat) (l3 : Option Nat) (l4 : Int32) (s : gS) : Option (Int32 × gS) :=
  f_L_law_1405 κ F k23 l0 l1 l2 l3 l4 s
set_option maxHeartbeats 4000000 in
theorem w_L_law_1025 {E : gE} (hX : gXF E) {F : Nat} {r : Int32} {s' : gS} {k23 : Option Nat → Option Nat → Option Nat → Option Nat → Int32 → gS → Option (Int32 × gS)} (hk23 : ∀ (l0 : Option Nat) (l1 : Option Nat) (l2 : Option Nat) (l3 : Option Nat) (l4 : Int32) (s : gS), k23 l0 l1 l2 l3 l4 s = some (r, s') → W_L_law E r 23 [(0, vR l0), (1, vR l1), (2, vR l2), (3, vR l3), (4, vI l4)] [] s) : ∀ (l0 : Option Nat) (l1 : Option Nat) (l2 : Option Nat) (l3 : Option Nat) (l4 : Int32)  (s : gS), f_L_law_1025 (gk E) F k23 l0 l1 l2 l3 l4 s = some (r, s') → W_L_law E r 1025 [(0, vR l0), (1, vR l1), (2, vR l2), (3, vR l3), (4, vI l4)] [] s := by
  intro l0 l1 l2 l3 l4 s hB
  unfold f_L_law_1025 at hB
  refine gw_goto (tgt := 1405) dL_law_1025 (by decide) ?_
  exact gw_sub [0, 1, 2, 3, 4] rfl (w_L_law_1405 hX hk23 _ _ _ _ _ _ hB)
noncomputable def f_L_law_1094 (κ : gK) (F : Nat) (k23 : Option Nat → Option Nat → Option Nat → Option Nat → Int32 → gS → Option (Int32 × gS)) (l0 : Option Nat) (l1 : Option Nat) (l2 : Option Nat) (l3 : Option Nat) (l4 : Int32) (s : gS) : Option (Int32 × gS) :=
  f_L_law_1405 κ F k23 l0 l1 l2 l3 l4 s
set_option maxHeartbeats 4000000 in
theorem w_L_law_1094 {E : gE} (hX : gXF E) {F : Nat} {r : Int32} {s' : gS} {k23 : Option Nat → Option Nat → Option Nat → Option Nat → Int32 → gS → Option (Int32 × gS)} (hk23 : ∀ (l0 : Option Nat) (l1 : Option Nat) (l2 : Option Nat) (l3 : Option Nat) (l4 : Int32) (s : gS), k23 l0 l1 l2 l3 l4 s = some (r, s') → W_L_law E r 23 [(0, vR l0), (1, vR l1), (2, vR l2), (3, vR l3), (4, vI l4)] [] s) : ∀ (l0 : Option Nat) (l1 : Option Nat) (l2 : Option Nat) (l3 : Option Nat) (l4 : Int32)  (s : gS), f_L_law_1094 (gk E) F k23 l0 l1 l2 l3 l4 s = some (r, s') → W_L_law E r 1094 [(0, vR l0), (1, vR l1), (2, vR l2), (3, vR l3), (4, vI l4)] [] s := by
  intro l0 l1 l2 l3 l4 s hB
  unfold f_L_law_1094 at hB
  refine gw_goto (tgt := 1405) dL_law_1094 (by decide) ?_
  exact gw_sub [0, 1, 2, 3, 4] rfl (w_L_law_1405 hX hk23 _ _ _ _ _ _ hB)
noncomputable def f_L_law_1150 (κ : gK) (F : Nat) (k23 : Option Nat → Option Nat → Option Nat → Option Nat → Int32 → gS → Option (Int32 × gS)) (l0 : Option Nat) (l1 : Option Nat) (l2 : Option Nat) (l3 : Option Nat) (l4 : Int32) (s : gS) : Option (Int32 × gS) :=
  f_L_law_1405 κ F k23 l0 l1 l2 l3 l4 s
set_option maxHeartbeats 4000000 in
theorem w_L_law_1150 {E : gE} (hX : gXF E) {F : Nat} {r : Int32} {s' : gS} {k23 : Option Nat → Option Nat → Option Nat → Option Nat → Int32 → gS → Option (Int32 × gS)} (hk23 : ∀ (l0 : Option Nat) (l1 : Option Nat) (l2 : Option Nat) (l3 : Option Nat) (l4 : Int32) (s : gS), k23 l0 l1 l2 l3 l4 s = some (r, s') → W_L_law E r 23 [(0, vR l0), (1, vR l1), (2, vR l2), (3, vR l3), (4, vI l4)] [] s) : ∀ (l0 : Option Nat) (l1 : Option Nat) (l2 : Option Nat) (l3 : Option Nat) (l4 : Int32)  (s : gS), f_L_law_1150 (gk E) F k23 l0 l1 l2 l3 l4 s = some (r, s') → W_L_law E r 1150 [(0, vR l0), (1, vR l1), (2, vR l2), (3, vR l3), (4, vI l4)] [] s := by
  intro l0 l1 l2 l3 l4 s hB
  unfold f_L_law_1150 at hB
  refine gw_goto (tgt := 1405) dL_law_1150 (by decide) ?_
  exact gw_sub [0, 1, 2, 3, 4] rfl (w_L_law_1405 hX hk23 _ _ _ _ _ _ hB)
noncomputable def f_L_law_1206 (κ : gK) (F : Nat) (k23 : Option Nat → Option Nat → Option Nat → Option Nat → Int32 → gS → Option (Int32 × gS)) (l0 : Option Nat) (l1 : Option Nat) (l2 : Option Nat) (l3 : Option Nat) (l4 : Int32) (s : gS) : Option (Int32 × gS) :=
  f_L_law_1405 κ F k23 l0 l1 l2 l3 l4 s
set_option maxHeartbeats 4000000 in
theorem w_L_law_1206 {E : gE} (hX : gXF E) {F : Nat} {r : Int32} {s' : gS} {k23 : Option Nat → Option Nat → Option Nat → Option Nat → Int32 → gS → Option (Int32 × gS)} (hk23 : ∀ (l0 : Option Nat) (l1 : Option Nat) (l2 : Option Nat) (l3 : Option Nat) (l4 : Int32) (s : gS), k23 l0 l1 l2 l3 l4 s = some (r, s') → W_L_law E r 23 [(0, vR l0), (1, vR l1), (2, vR l2), (3, vR l3), (4, vI l4)] [] s) : ∀ (l0 : Option Nat) (l1 : Option Nat) (l2 : Option Nat) (l3 : Option Nat) (l4 : Int32)  (s : gS), f_L_law_1206 (gk E) F k23 l0 l1 l2 l3 l4 s = some (r, s') → W_L_law E r 1206 [(0, vR l0), (1, vR l1), (2, vR l2), (3, vR l3), (4, vI l4)] [] s := by
  intro l0 l1 l2 l3 l4 s hB
  unfold f_L_law_1206 at hB
  refine gw_goto (tgt := 1405) dL_law_1206 (by decide) ?_
  exact gw_sub [0, 1, 2, 3, 4] rfl (w_L_law_1405 hX hk23 _ _ _ _ _ _ hB)
noncomputable def f_L_law_1262 (κ : gK) (F : Nat) (k23 : Option Nat → Option Nat → Option Nat → Option Nat → Int32 → gS → Option (Int32 × gS)) (l0 : Option Nat) (l1 : Option Nat) (l2 : Option Nat) (l3 : Option Nat) (l4 : Int32) (s : gS) : Option (Int32 × gS) :=
  f_L_law_1405 κ F k23 l0 l1 l2 l3 l4 s
set_option maxHeartbeats 4000000 in
theorem w_L_law_1262 {E : gE} (hX : gXF E) {F : Nat} {r : Int32} {s' : gS} {k23 : Option Nat → Option Nat → Option Nat → Option Nat → Int32 → gS → Option (Int32 × gS)} (hk23 : ∀ (l0 : Option Nat) (l1 : Option Nat) (l2 : Option Nat) (l3 : Option Nat) (l4 : Int32) (s : gS), k23 l0 l1 l2 l3 l4 s = some (r, s') → W_L_law E r 23 [(0, vR l0), (1, vR l1), (2, vR l2), (3, vR l3), (4, vI l4)] [] s) : ∀ (l0 : Option Nat) (l1 : Option Nat) (l2 : Option Nat) (l3 : Option Nat) (l4 : Int32)  (s : gS), f_L_law_1262 (gk E) F k23 l0 l1 l2 l3 l4 s = some (r, s') → W_L_law E r 1262 [(0, vR l0), (1, vR l1), (2, vR l2), (3, vR l3), (4, vI l4)] [] s := by
  intro l0 l1 l2 l3 l4 s hB
  unfold f_L_law_1262 at hB
  refine gw_goto (tgt := 1405) dL_law_1262 (by decide) ?_
  exact gw_sub [0, 1, 2, 3, 4] rfl (w_L_law_1405 hX hk23 _ _ _ _ _ _ hB)
noncomputable def f_L_law_1318 (κ : gK) (F : Nat) (k23 : Option Nat → Option Nat → Option Nat → Option Nat → Int32 → gS → Option (Int32 × gS)) (l0 : Option Nat) (l1 : Option Nat) (l2 : Option Nat) (l3 : Option Nat) (l4 : Int32) (s : gS) : Option (Int32 × gS) :=
  f_L_law_1405 κ F k23 l0 l1 l2 l3 l4 s
set_option maxHeartbeats 4000000 in
theorem w_L_law_1318 {E : gE} (hX : gXF E) {F : Nat} {r : Int32} {s' : gS} {k23 : Option Nat → Option Nat → Option Nat → Option Nat → Int32 → gS → Option (Int32 × gS)} (hk23 : ∀ (l0 : Option Nat) (l1 : Option Nat) (l2 : Option Nat) (l3 : Option Nat) (l4 : Int32) (s : gS), k23 l0 l1 l2 l3 l4 s = some (r, s') → W_L_law E r 23 [(0, vR l0), (1, vR l1), (2, vR l2), (3, vR l3), (4, vI l4)] [] s) : ∀ (l0 : Option Nat) (l1 : Option Nat) (l2 : Option Nat) (l3 : Option Nat) (l4 : Int32)  (s : gS), f_L_law_1318 (gk E) F k23 l0 l1 l2 l3 l4 s = some (r, s') → W_L_law E r 1318 [(0, vR l0), (1, vR l1), (2, vR l2), (3, vR l3), (4, vI l4)] [] s := by
  intro l0 l1 l2 l3 l4 s hB
  unfold f_L_law_1318 at hB
  refine gw_goto (tgt := 1405) dL_law_1318 (by decide) ?_
  exact gw_sub [0, 1, 2, 3, 4] rfl (w_L_law_1405 hX hk23 _ _ _ _ _ _ hB)
noncomputable def f_L_law_1388 (κ : gK) (F : Nat) (k23 : Option Nat → Option Nat → Option Nat → Option Nat → Int32 → gS → Option (Int32 × gS)) (l0 : Option Nat) (l1 : Option Nat) (l2 : Option Nat) (l3 : Option Nat) (l4 : Int32) (s : gS) : Option (Int32 × gS) :=
  f_L_law_1405 κ F k23 l0 l1 l2 l3 l4 s
set_option maxHeartbeats 4000000 in
theorem w_L_law_1388 {E : gE} (hX : gXF E) {F : Nat} {r : Int32} {s' : gS} {k23 : Option Nat → Option Nat → Option Nat → Option Nat → Int32 → gS → Option (Int32 × gS)} (hk23 : ∀ (l0 : Option Nat) (l1 : Option Nat) (l2 : Option Nat) (l3 : Option Nat) (l4 : Int32) (s : gS), k23 l0 l1 l2 l3 l4 s = some (r, s') → W_L_law E r 23 [(0, vR l0), (1, vR l1), (2, vR l2), (3, vR l3), (4, vI l4)] [] s) : ∀ (l0 : Option Nat) (l1 : Option Nat) (l2 : Option Nat) (l3 : Option Nat) (l4 : Int32)  (s : gS), f_L_law_1388 (gk E) F k23 l0 l1 l2 l3 l4 s = some (r, s') → W_L_law E r 1388 [(0, vR l0), (1, vR l1), (2, vR l2), (3, vR l3), (4, vI l4)] [] s := by
  intro l0 l1 l2 l3 l4 s hB
  unfold f_L_law_1388 at hB
  refine gw_goto (tgt := 1405) dL_law_1388 (by decide) ?_
  exact gw_sub [0, 1, 2, 3, 4] rfl (w_L_law_1405 hX hk23 _ _ _ _ _ _ hB)
noncomputable def f_L_law_23b (κ : gK) (F : Nat) (k23 : Option Nat → Option Nat → Option Nat → Option Nat → Int32 → gS → Option (Int32 × gS)) (l0 : Option Nat) (l1 : Option Nat) (l2 : Option Nat) (l3 : Option Nat) (l4 : Int32) (s : gS) : Option (Int32 × gS) :=
  gB1 (glX s l0) fun v1 =>
  if (v1 - (3 : Int32)) < l4 then
    gB1 (gok .boolean (1 : Int32)) fun _ => gB1 (glb κ s) fun _ => some ((1 : Int32), s)
  else
    gB1 (gaI s l0 9 l4) fun v2 =>
    if (v2 &&& (31 : Int32)) = (0 : Int32) then
      gB2 (f_X0_begin κ F l1 l3 s) fun v4 s3 =>
      gB1 (gck s3 l2 9) fun _ =>
      gB2 (f_X6_begin κ F l2  s3) fun v6 s5 =>
      gB1 (gck s5 l2 9) fun _ =>
      gB2 (f_X6_thrown κ F l2  s5) fun v9 s8 =>
      if v9 = v4 then
        if v4 = 0 then
          gB1 (gaJ s8 l3 1 (0 : Int32)) fun v11 =>
          if (lg_cmp v11 (v6.toInt64)) = 0 then
            f_L_law_193 κ F k23 l0 l1 l2 l3 l4 s8
          else
            gB1 (gok .boolean (0 : Int32)) fun _ => gB1 (glb κ s8) fun _ => some ((0 : Int32), s8)
        else
          f_L_law_193 κ F k23 l0 l1 l2 l3 l4 s8
      else
        gB1 (gok .boolean (0 : Int32)) fun _ => gB1 (glb κ s8) fun _ => some ((0 : Int32), s8)
    else
    if (v2 &&& (31 : Int32)) = (1 : Int32) then
      gB1 (gaI s l0 9 (l4 + (1 : Int32))) fun v12 =>
      gB1 (gaI s l0 9 (l4 + (2 : Int32))) fun v13 =>
      gB2 (f_X0_put κ F l1 v12 v13 l3 s) fun v15 s14 =>
      gB1 (gaI s14 l0 9 (l4 + (1 : Int32))) fun v16 =>
      gB1 (gaI s14 l0 9 (l4 + (2 : Int32))) fun v17 =>
      gB1 (gck s14 l2 9) fun _ =>
      gB2 (f_X6_put κ F l2 v16 v17 s14) fun v19 s18 =>
      gB1 (gck s18 l2 9) fun _ =>
      gB2 (f_X6_thrown κ F l2  s18) fun v22 s21 =>
      if v22 = v15 then
        if v15 = 0 then
          gB1 (gaJ s21 l3 1 (0 : Int32)) fun v24 =>
          if (lg_cmp v24 (v19.toInt64)) = 0 then
            f_L_law_261 κ F k23 l0 l1 l2 l3 l4 s21
          else
            gB1 (gok .boolean (0 : Int32)) fun _ => gB1 (glb κ s21) fun _ => some ((0 : Int32), s21)
        else
          f_L_law_261 κ F k23 l0 l1 l2 l3 l4 s21
      else
        gB1 (gok .boolean (0 : Int32)) fun _ => gB1 (glb κ s21) fun _ => some ((0 : Int32), s21)
    else
    if (v2 &&& (31 : Int32)) = (2 : Int32) then
      gB1 (gaI s l0 9 (l4 + (1 : Int32))) fun v25 =>
      gB2 (f_X0_remove κ F l1 v25 l3 s) fun v27 s26 =>
      gB1 (gaI s26 l0 9 (l4 + (1 : Int32))) fun v28 =>
      gB1 (gck s26 l2 9) fun _ =>
      gB2 (f_X6_remove κ F l2 v28 s26) fun v30 s29 =>
      gB1 (gck s29 l2 9) fun _ =>
      gB2 (f_X6_thrown κ F l2  s29) fun v33 s32 =>
      if v33 = v27 then
        if v27 = 0 then
          gB1 (gaJ s32 l3 1 (0 : Int32)) fun v35 =>
          if (lg_cmp v35 (v30.toInt64)) = 0 then
            f_L_law_317 κ F k23 l0 l1 l2 l3 l4 s32
          else
            gB1 (gok .boolean (0 : Int32)) fun _ => gB1 (glb κ s32) fun _ => some ((0 : Int32), s32)
        else
          f_L_law_317 κ F k23 l0 l1 l2 l3 l4 s32
      else
        gB1 (gok .boolean (0 : Int32)) fun _ => gB1 (glb κ s32) fun _ => some ((0 : Int32), s32)
    else
    if (v2 &&& (31 : Int32)) = (3 : Int32) then
      gB1 (gaI s l0 9 (l4 + (1 : Int32))) fun v36 =>
      gB2 (f_X0_commit κ F l1 v36 l3 s) fun v38 s37 =>
      gB1 (gaI s37 l0 9 (l4 + (1 : Int32))) fun v39 =>
      gB1 (gck s37 l2 9) fun _ =>
      gB2 (f_X6_commit κ F l2 v39 s37) fun v41 s40 =>
      gB1 (gck s40 l2 9) fun _ =>
      gB2 (f_X6_thrown κ F l2  s40) fun v44 s43 =>
      if v44 = v38 then
        if v38 = 0 then
          gB1 (gaJ s43 l3 1 (0 : Int32)) fun v46 =>
          if (lg_cmp v46 (v41.toInt64)) = 0 then
            f_L_law_373 κ F k23 l0 l1 l2 l3 l4 s43
          else
            gB1 (gok .boolean (0 : Int32)) fun _ => gB1 (glb κ s43) fun _ => some ((0 : Int32), s43)
        else
          f_L_law_373 κ F k23 l0 l1 l2 l3 l4 s43
      else
        gB1 (gok .boolean (0 : Int32)) fun _ => gB1 (glb κ s43) fun _ => some ((0 : Int32), s43)
    else
    if (v2 &&& (31 : Int32)) = (4 : Int32) then
      gB2 (f_X0_abort κ F l1 l3 s) fun v48 s47 =>
      gB1 (gck s47 l2 9) fun _ =>
      gB2 (f_X6_abort κ F l2  s47) fun v50 s49 =>
      gB1 (gck s49 l2 9) fun _ =>
      gB2 (f_X6_thrown κ F l2  s49) fun v53 s52 =>
      if v53 = v48 then
        if v48 = 0 then
          gB1 (gaJ s52 l3 1 (0 : Int32)) fun v55 =>
          if (lg_cmp v55 (v50.toInt64)) = 0 then
            f_L_law_417 κ F k23 l0 l1 l2 l3 l4 s52
          else
            gB1 (gok .boolean (0 : Int32)) fun _ => gB1 (glb κ s52) fun _ => some ((0 : Int32), s52)
        else
          f_L_law_417 κ F k23 l0 l1 l2 l3 l4 s52
      else
        gB1 (gok .boolean (0 : Int32)) fun _ => gB1 (glb κ s52) fun _ => some ((0 : Int32), s52)
    else
    if (v2 &&& (31 : Int32)) = (5 : Int32) then
      gB2 (f_X0_open κ F l1 l3 s) fun v57 s56 =>
      gB1 (gck s56 l2 9) fun _ =>
      gB2 (f_X6_open κ F l2  s56) fun v59 s58 =>
      gB1 (gck s58 l2 9) fun _ =>
      gB2 (f_X6_thrown κ F l2  s58) fun v62 s61 =>
      if v62 = v57 then
        if v57 = 0 then
          gB1 (gaJ s61 l3 1 (0 : Int32)) fun v64 =>
          if (lg_cmp v64 (v59.toInt64)) = 0 then
            f_L_law_461 κ F k23 l0 l1 l2 l3 l4 s61
          else
            gB1 (gok .boolean (0 : Int32)) fun _ => gB1 (glb κ s61) fun _ => some ((0 : Int32), s61)
        else
          f_L_law_461 κ F k23 l0 l1 l2 l3 l4 s61
      else
        gB1 (gok .boolean (0 : Int32)) fun _ => gB1 (glb κ s61) fun _ => some ((0 : Int32), s61)
    else
    if (v2 &&& (31 : Int32)) = (6 : Int32) then
      gB1 (gaI s l0 9 (l4 + (1 : Int32))) fun v65 =>
      gB2 (f_X0_close κ F l1 v65 l3 s) fun v67 s66 =>
      gB1 (gaI s66 l0 9 (l4 + (1 : Int32))) fun v68 =>
      gB1 (gck s66 l2 9) fun _ =>
      gB2 (f_X6_close κ F l2 v68 s66) fun v70 s69 =>
      gB1 (gck s69 l2 9) fun _ =>
      gB2 (f_X6_thrown κ F l2  s69) fun v73 s72 =>
      if v73 = v67 then
        if v67 = 0 then
          gB1 (gaJ s72 l3 1 (0 : Int32)) fun v75 =>
          if (lg_cmp v75 (v70.toInt64)) = 0 then
            f_L_law_517 κ F k23 l0 l1 l2 l3 l4 s72
          else
            gB1 (gok .boolean (0 : Int32)) fun _ => gB1 (glb κ s72) fun _ => some ((0 : Int32), s72)
        else
          f_L_law_517 κ F k23 l0 l1 l2 l3 l4 s72
      else
        gB1 (gok .boolean (0 : Int32)) fun _ => gB1 (glb κ s72) fun _ => some ((0 : Int32), s72)
    else
    if (v2 &&& (31 : Int32)) = (7 : Int32) then
      gB1 (gaI s l0 9 (l4 + (1 : Int32))) fun v76 =>
      gB2 (f_X0_get κ F l1 v76 l3 s) fun v78 s77 =>
      gB1 (gaI s77 l0 9 (l4 + (1 : Int32))) fun v79 =>
      gB1 (gck s77 l2 9) fun _ =>
      gB2 (f_X6_get κ F l2 v79 s77) fun v81 s80 =>
      gB1 (gck s80 l2 9) fun _ =>
      gB2 (f_X6_thrown κ F l2  s80) fun v84 s83 =>
      if v84 = v78 then
        if v78 = 0 then
          gB1 (gaJ s83 l3 1 (0 : Int32)) fun v86 =>
          if (lg_cmp v86 (v81.toInt64)) = 0 then
            f_L_law_573 κ F k23 l0 l1 l2 l3 l4 s83
          else
            gB1 (gok .boolean (0 : Int32)) fun _ => gB1 (glb κ s83) fun _ => some ((0 : Int32), s83)
        else
          f_L_law_573 κ F k23 l0 l1 l2 l3 l4 s83
      else
        gB1 (gok .boolean (0 : Int32)) fun _ => gB1 (glb κ s83) fun _ => some ((0 : Int32), s83)
    else
    if (v2 &&& (31 : Int32)) = (8 : Int32) then
      gB1 (gaI s l0 9 (l4 + (1 : Int32))) fun v87 =>
      gB2 (f_X0_drafted κ F l1 v87 l3 s) fun v89 s88 =>
      gB1 (gaI s88 l0 9 (l4 + (1 : Int32))) fun v90 =>
      gB1 (gck s88 l2 9) fun _ =>
      gB2 (f_X6_drafted κ F l2 v90 s88) fun v92 s91 =>
      gB1 (gck s91 l2 9) fun _ =>
      gB2 (f_X6_thrown κ F l2  s91) fun v95 s94 =>
      if v95 = v89 then
        if v89 = 0 then
          gB1 (gaJ s94 l3 1 (0 : Int32)) fun v97 =>
          if (lg_cmp v97 (v92.toInt64)) = 0 then
            f_L_law_629 κ F k23 l0 l1 l2 l3 l4 s94
          else
            gB1 (gok .boolean (0 : Int32)) fun _ => gB1 (glb κ s94) fun _ => some ((0 : Int32), s94)
        else
          f_L_law_629 κ F k23 l0 l1 l2 l3 l4 s94
      else
        gB1 (gok .boolean (0 : Int32)) fun _ => gB1 (glb κ s94) fun _ => some ((0 : Int32), s94)
    else
    if (v2 &&& (31 : Int32)) = (9 : Int32) then
      gB1 (gaI s l0 9 (l4 + (1 : Int32))) fun v98 =>
      gB1 (gaI s l0 9 (l4 + (2 : Int32))) fun v99 =>
      gB2 (f_X0_read κ F l1 v98 v99 l3 s) fun v101 s100 =>
      gB1 (gaI s100 l0 9 (l4 + (1 : Int32))) fun v102 =>
      gB1 (gaI s100 l0 9 (l4 + (2 : Int32))) fun v103 =>
      gB1 (gck s100 l2 9) fun _ =>
      gB2 (f_X6_read κ F l2 v102 v103 s100) fun v105 s104 =>
      gB1 (gck s104 l2 9) fun _ =>
      gB2 (f_X6_thrown κ F l2  s104) fun v108 s107 =>
      if v108 = v101 then
        if v101 = 0 then
          gB1 (gaJ s107 l3 1 (0 : Int32)) fun v110 =>
          if (lg_cmp v110 (v105.toInt64)) = 0 then
            f_L_law_697 κ F k23 l0 l1 l2 l3 l4 s107
          else
            gB1 (gok .boolean (0 : Int32)) fun _ => gB1 (glb κ s107) fun _ => some ((0 : Int32), s107)
        else
          f_L_law_697 κ F k23 l0 l1 l2 l3 l4 s107
      else
        gB1 (gok .boolean (0 : Int32)) fun _ => gB1 (glb κ s107) fun _ => some ((0 : Int32), s107)
    else
    if (v2 &&& (31 : Int32)) = (10 : Int32) then
      gB1 (gaI s l0 9 (l4 + (1 : Int32))) fun v111 =>
      gB1 (gaI s l0 9 (l4 + (2 : Int32))) fun v112 =>
      gB2 (f_X0_entry κ F l1 v111 v112 l3 s) fun v114 s113 =>
      gB1 (gaI s113 l0 9 (l4 + (1 : Int32))) fun v115 =>
      gB1 (gaI s113 l0 9 (l4 + (2 : Int32))) fun v116 =>
      gB1 (gck s113 l2 9) fun _ =>
      gB2 (f_X6_entry κ F l2 v115 v116 s113) fun v118 s117 =>
      gB1 (gck s117 l2 9) fun _ =>
      gB2 (f_X6_thrown κ F l2  s117) fun v121 s120 =>
      if v121 = v114 then
        if v114 = 0 then
          gB1 (gaJ s120 l3 1 (0 : Int32)) fun v123 =>
          if (lg_cmp v123 (v118.toInt64)) = 0 then
            f_L_law_765 κ F k23 l0 l1 l2 l3 l4 s120
          else
            gB1 (gok .boolean (0 : Int32)) fun _ => gB1 (glb κ s120) fun _ => some ((0 : Int32), s120)
        else
          f_L_law_765 κ F k23 l0 l1 l2 l3 l4 s120
      else
        gB1 (gok .boolean (0 : Int32)) fun _ => gB1 (glb κ s120) fun _ => some ((0 : Int32), s120)
    else
    if (v2 &&& (31 : Int32)) = (11 : Int32) then
      gB1 (gaI s l0 9 (l4 + (1 : Int32))) fun v124 =>
      gB1 (gaI s l0 9 (l4 + (2 : Int32))) fun v125 =>
      gB2 (f_X0_root κ F l1 v124 v125 l3 s) fun v127 s126 =>
      gB1 (gaI s126 l0 9 (l4 + (1 : Int32))) fun v128 =>
      gB1 (gaI s126 l0 9 (l4 + (2 : Int32))) fun v129 =>
      gB1 (gck s126 l2 9) fun _ =>
      gB2 (f_X6_root κ F l2 v128 v129 s126) fun v131 s130 =>
      gB1 (gck s130 l2 9) fun _ =>
      gB2 (f_X6_thrown κ F l2  s130) fun v134 s133 =>
      if v134 = v127 then
        if v127 = 0 then
          gB1 (gaJ s133 l3 1 (0 : Int32)) fun v136 =>
          if (lg_cmp v136 (v131.toInt64)) = 0 then
            f_L_law_833 κ F k23 l0 l1 l2 l3 l4 s133
          else
            gB1 (gok .boolean (0 : Int32)) fun _ => gB1 (glb κ s133) fun _ => some ((0 : Int32), s133)
        else
          f_L_law_833 κ F k23 l0 l1 l2 l3 l4 s133
      else
        gB1 (gok .boolean (0 : Int32)) fun _ => gB1 (glb κ s133) fun _ => some ((0 : Int32), s133)
    else
    if (v2 &&& (31 : Int32)) = (12 : Int32) then
      gB1 (gaI s l0 9 (l4 + (1 : Int32))) fun v137 =>
      gB1 (gaI s l0 9 (l4 + (2 : Int32))) fun v138 =>
      gB2 (f_X0_reader κ F l1 v137 v138 l3 s) fun v140 s139 =>
      gB1 (gaI s139 l0 9 (l4 + (1 : Int32))) fun v141 =>
      gB1 (gaI s139 l0 9 (l4 + (2 : Int32))) fun v142 =>
      gB1 (gck s139 l2 9) fun _ =>
      gB2 (f_X6_reader κ F l2 v141 v142 s139) fun v144 s143 =>
      gB1 (gck s143 l2 9) fun _ =>
      gB2 (f_X6_thrown κ F l2  s143) fun v147 s146 =>
      if v147 = v140 then
        if v140 = 0 then
          gB1 (gaJ s146 l3 1 (0 : Int32)) fun v149 =>
          if (lg_cmp v149 (v144.toInt64)) = 0 then
            f_L_law_901 κ F k23 l0 l1 l2 l3 l4 s146
          else
            gB1 (gok .boolean (0 : Int32)) fun _ => gB1 (glb κ s146) fun _ => some ((0 : Int32), s146)
        else
          f_L_law_901 κ F k23 l0 l1 l2 l3 l4 s146
      else
        gB1 (gok .boolean (0 : Int32)) fun _ => gB1 (glb κ s146) fun _ => some ((0 : Int32), s146)
    else
    if (v2 &&& (31 : Int32)) = (13 : Int32) then
      gB1 (gaI s l0 9 (l4 + (1 : Int32))) fun v150 =>
      gB1 (gaI s l0 9 (l4 + (2 : Int32))) fun v151 =>
      gB2 (f_X0_bed κ F l1 v150 v151 l3 s) fun v153 s152 =>
      gB1 (gaI s152 l0 9 (l4 + (1 : Int32))) fun v154 =>
      gB1 (gaI s152 l0 9 (l4 + (2 : Int32))) fun v155 =>
      gB1 (gck s152 l2 9) fun _ =>
      gB2 (f_X6_bed κ F l2 v154 v155 s152) fun v157 s156 =>
      gB1 (gck s156 l2 9) fun _ =>
      gB2 (f_X6_thrown κ F l2  s156) fun v160 s159 =>
      if v160 = v153 then
        if v153 = 0 then
          gB1 (gaJ s159 l3 1 (0 : Int32)) fun v162 =>
          if (lg_cmp v162 (v157.toInt64)) = 0 then
            f_L_law_969 κ F k23 l0 l1 l2 l3 l4 s159
          else
            gB1 (gok .boolean (0 : Int32)) fun _ => gB1 (glb κ s159) fun _ => some ((0 : Int32), s159)
        else
          f_L_law_969 κ F k23 l0 l1 l2 l3 l4 s159
      else
        gB1 (gok .boolean (0 : Int32)) fun _ => gB1 (glb κ s159) fun _ => some ((0 : Int32), s159)
    else
    if (v2 &&& (31 : Int32)) = (14 : Int32) then
      gB1 (gaI s l0 9 (l4 + (1 : Int32))) fun v163 =>
      gB2 (f_X0_whole κ F l1 v163 l3 s) fun v165 s164 =>
      gB1 (gaI s164 l0 9 (l4 + (1 : Int32))) fun v166 =>
      gB1 (gck s164 l2 9) fun _ =>
      gB2 (f_X6_whole κ F l2 v166 s164) fun v168 s167 =>
      gB1 (gck s167 l2 9) fun _ =>
      gB2 (f_X6_thrown κ F l2  s167) fun v171 s170 =>
      if v171 = v165 then
        if v165 = 0 then
          gB1 (gaJ s170 l3 1 (0 : Int32)) fun v173 =>
          if (lg_cmp v173 (v168.toInt64)) = 0 then
            f_L_law_1025 κ F k23 l0 l1 l2 l3 l4 s170
          else
            gB1 (gok .boolean (0 : Int32)) fun _ => gB1 (glb κ s170) fun _ => some ((0 : Int32), s170)
        else
          f_L_law_1025 κ F k23 l0 l1 l2 l3 l4 s170
      else
        gB1 (gok .boolean (0 : Int32)) fun _ => gB1 (glb κ s170) fun _ => some ((0 : Int32), s170)
    else
    if (v2 &&& (31 : Int32)) = (15 : Int32) then
      gB1 (gck s l1 0) fun _ =>
      gB2 (f_X1_nextBed κ F l1  s) fun v175 s174 =>
      gB1 (gck s174 l2 9) fun _ =>
      gB2 (f_X6_nextBed κ F l2  s174) fun v178 s177 =>
      if v175 = v178 then
        f_L_law_1405 κ F k23 l0 l1 l2 l3 l4 s177
      else
        gB1 (gok .boolean (0 : Int32)) fun _ => gB1 (glb κ s177) fun _ => some ((0 : Int32), s177)
    else
    if (v2 &&& (31 : Int32)) = (16 : Int32) then
      gB1 (gaI s l0 9 (l4 + (1 : Int32))) fun v180 =>
      gB2 (f_X0_bedsFor κ F l1 v180 l3 s) fun v182 s181 =>
      gB1 (gaI s181 l0 9 (l4 + (1 : Int32))) fun v183 =>
      gB1 (gck s181 l2 9) fun _ =>
      gB2 (f_X6_bedsFor κ F l2 v183 s181) fun v185 s184 =>
      gB1 (gck s184 l2 9) fun _ =>
      gB2 (f_X6_thrown κ F l2  s184) fun v188 s187 =>
      if v188 = v182 then
        if v182 = 0 then
          gB1 (gaJ s187 l3 1 (0 : Int32)) fun v190 =>
          if (lg_cmp v190 (v185.toInt64)) = 0 then
            f_L_law_1094 κ F k23 l0 l1 l2 l3 l4 s187
          else
            gB1 (gok .boolean (0 : Int32)) fun _ => gB1 (glb κ s187) fun _ => some ((0 : Int32), s187)
        else
          f_L_law_1094 κ F k23 l0 l1 l2 l3 l4 s187
      else
        gB1 (gok .boolean (0 : Int32)) fun _ => gB1 (glb κ s187) fun _ => some ((0 : Int32), s187)
    else
    if (v2 &&& (31 : Int32)) = (17 : Int32) then
      gB1 (gaI s l0 9 (l4 + (1 : Int32))) fun v191 =>
      gB2 (f_X0_reason κ F l1 v191 l3 s) fun v193 s192 =>
      gB1 (gaI s192 l0 9 (l4 + (1 : Int32))) fun v194 =>
      gB1 (gck s192 l2 9) fun _ =>
      gB2 (f_X6_reason κ F l2 v194 s192) fun v196 s195 =>
      gB1 (gck s195 l2 9) fun _ =>
      gB2 (f_X6_thrown κ F l2  s195) fun v199 s198 =>
      if v199 = v193 then
        if v193 = 0 then
          gB1 (gaJ s198 l3 1 (0 : Int32)) fun v201 =>
          if (lg_cmp v201 (v196.toInt64)) = 0 then
            f_L_law_1150 κ F k23 l0 l1 l2 l3 l4 s198
          else
            gB1 (gok .boolean (0 : Int32)) fun _ => gB1 (glb κ s198) fun _ => some ((0 : Int32), s198)
        else
          f_L_law_1150 κ F k23 l0 l1 l2 l3 l4 s198
      else
        gB1 (gok .boolean (0 : Int32)) fun _ => gB1 (glb κ s198) fun _ => some ((0 : Int32), s198)
    else
    if (v2 &&& (31 : Int32)) = (18 : Int32) then
      gB1 (gaI s l0 9 (l4 + (1 : Int32))) fun v202 =>
      gB2 (f_X0_neededWithout κ F l1 v202 l3 s) fun v204 s203 =>
      gB1 (gaI s203 l0 9 (l4 + (1 : Int32))) fun v205 =>
      gB1 (gck s203 l2 9) fun _ =>
      gB2 (f_X6_neededWithout κ F l2 v205 s203) fun v207 s206 =>
      gB1 (gck s206 l2 9) fun _ =>
      gB2 (f_X6_thrown κ F l2  s206) fun v210 s209 =>
      if v210 = v204 then
        if v204 = 0 then
          gB1 (gaJ s209 l3 1 (0 : Int32)) fun v212 =>
          if (lg_cmp v212 (v207.toInt64)) = 0 then
            f_L_law_1206 κ F k23 l0 l1 l2 l3 l4 s209
          else
            gB1 (gok .boolean (0 : Int32)) fun _ => gB1 (glb κ s209) fun _ => some ((0 : Int32), s209)
        else
          f_L_law_1206 κ F k23 l0 l1 l2 l3 l4 s209
      else
        gB1 (gok .boolean (0 : Int32)) fun _ => gB1 (glb κ s209) fun _ => some ((0 : Int32), s209)
    else
    if (v2 &&& (31 : Int32)) = (19 : Int32) then
      gB1 (gaI s l0 9 (l4 + (1 : Int32))) fun v213 =>
      gB2 (f_X0_changedSince κ F l1 v213 l3 s) fun v215 s214 =>
      gB1 (gaI s214 l0 9 (l4 + (1 : Int32))) fun v216 =>
      gB1 (gck s214 l2 9) fun _ =>
      gB2 (f_X6_changedSince κ F l2 v216 s214) fun v218 s217 =>
      gB1 (gck s217 l2 9) fun _ =>
      gB2 (f_X6_thrown κ F l2  s217) fun v221 s220 =>
      if v221 = v215 then
        if v215 = 0 then
          gB1 (gaJ s220 l3 1 (0 : Int32)) fun v223 =>
          if (lg_cmp v223 (v218.toInt64)) = 0 then
            f_L_law_1262 κ F k23 l0 l1 l2 l3 l4 s220
          else
            gB1 (gok .boolean (0 : Int32)) fun _ => gB1 (glb κ s220) fun _ => some ((0 : Int32), s220)
        else
          f_L_law_1262 κ F k23 l0 l1 l2 l3 l4 s220
      else
        gB1 (gok .boolean (0 : Int32)) fun _ => gB1 (glb κ s220) fun _ => some ((0 : Int32), s220)
    else
    if (v2 &&& (31 : Int32)) = (20 : Int32) then
      gB1 (gaI s l0 9 (l4 + (1 : Int32))) fun v224 =>
      gB2 (f_X0_type κ F l1 v224 l3 s) fun v226 s225 =>
      gB1 (gaI s225 l0 9 (l4 + (1 : Int32))) fun v227 =>
      gB1 (gck s225 l2 9) fun _ =>
      gB2 (f_X6_type κ F l2 v227 s225) fun v229 s228 =>
      gB1 (gck s228 l2 9) fun _ =>
      gB2 (f_X6_thrown κ F l2  s228) fun v232 s231 =>
      if v232 = v226 then
        if v226 = 0 then
          gB1 (gaJ s231 l3 1 (0 : Int32)) fun v234 =>
          if (lg_cmp v234 (v229.toInt64)) = 0 then
            f_L_law_1318 κ F k23 l0 l1 l2 l3 l4 s231
          else
            gB1 (gok .boolean (0 : Int32)) fun _ => gB1 (glb κ s231) fun _ => some ((0 : Int32), s231)
        else
          f_L_law_1318 κ F k23 l0 l1 l2 l3 l4 s231
      else
        gB1 (gok .boolean (0 : Int32)) fun _ => gB1 (glb κ s231) fun _ => some ((0 : Int32), s231)
    else
    if (v2 &&& (31 : Int32)) = (21 : Int32) then
      gB1 (gck s l1 0) fun _ =>
      gB2 (f_X1_clearCommands κ F l1  s) fun v236 s235 =>
      gB1 (gck s235 l2 9) fun _ =>
      gB2 (f_X6_clearCommands κ F l2  s235) fun v239 s238 =>
      if v236 = v239 then
        f_L_law_1405 κ F k23 l0 l1 l2 l3 l4 s238
      else
        gB1 (gok .boolean (0 : Int32)) fun _ => gB1 (glb κ s238) fun _ => some ((0 : Int32), s238)
    else
    if (v2 &&& (31 : Int32)) = (22 : Int32) then
      gB1 (gck s l1 0) fun _ =>
      gB2 (f_X1_runCommands κ F l1  s) fun v242 s241 =>
      gB1 (gck s241 l2 9) fun _ =>
      gB2 (f_X6_runCommands κ F l2  s241) fun v245 s244 =>
      if v242 = v245 then
        f_L_law_1405 κ F k23 l0 l1 l2 l3 l4 s244
      else
        gB1 (gok .boolean (0 : Int32)) fun _ => gB1 (glb κ s244) fun _ => some ((0 : Int32), s244)
    else
    if (v2 &&& (31 : Int32)) = (23 : Int32) then
      gB2 (f_X0_undo κ F l1 l3 s) fun v248 s247 =>
      gB1 (gck s247 l2 9) fun _ =>
      gB2 (f_X6_undo κ F l2  s247) fun v250 s249 =>
      gB1 (gck s249 l2 9) fun _ =>
      gB2 (f_X6_thrown κ F l2  s249) fun v253 s252 =>
      if v253 = v248 then
        if v248 = 0 then
          gB1 (gaJ s252 l3 1 (0 : Int32)) fun v255 =>
          if (lg_cmp v255 (v250.toInt64)) = 0 then
            f_L_law_1388 κ F k23 l0 l1 l2 l3 l4 s252
          else
            gB1 (gok .boolean (0 : Int32)) fun _ => gB1 (glb κ s252) fun _ => some ((0 : Int32), s252)
        else
          f_L_law_1388 κ F k23 l0 l1 l2 l3 l4 s252
      else
        gB1 (gok .boolean (0 : Int32)) fun _ => gB1 (glb κ s252) fun _ => some ((0 : Int32), s252)
    else
    if (v2 &&& (31 : Int32)) = (24 : Int32) then
      gB1 (gck s l1 0) fun _ =>
      gBy (f_X1_digest κ F l1  s) (fun Cv257 s256 =>
        none) <| fun v257 s256 =>
      gB1 (gck s256 l2 9) fun _ =>
      gB2 (f_X6_digest κ F l2  s256) fun v260 s259 =>
      if (lg_cmp v257 v260) = 0 then
        f_L_law_1405 κ F k23 l0 l1 l2 l3 l4 s259
      else
        gB1 (gok .boolean (0 : Int32)) fun _ => gB1 (glb κ s259) fun _ => some ((0 : Int32), s259)
    else
    f_L_law_1405 κ F k23 l0 l1 l2 l3 l4 s
noncomputable def f_L_law_23 (κ : gK) (F : Nat)  : Nat → Option Nat → Option Nat → Option Nat → Option Nat → Int32 → gS → Option (Int32 × gS)
  | 0 => fun _ _ _ _ _ _ => none
  | n + 1 => f_L_law_23b κ F  (f_L_law_23 κ F  n)
set_option maxHeartbeats 4000000 in
theorem w_L_law_23b {E : gE} (hX : gXF E) {F : Nat} {r : Int32} {s' : gS} {k23 : Option Nat → Option Nat → Option Nat → Option Nat → Int32 → gS → Option (Int32 × gS)} (hk23 : ∀ (l0 : Option Nat) (l1 : Option Nat) (l2 : Option Nat) (l3 : Option Nat) (l4 : Int32) (s : gS), k23 l0 l1 l2 l3 l4 s = some (r, s') → W_L_law E r 23 [(0, vR l0), (1, vR l1), (2, vR l2), (3, vR l3), (4, vI l4)] [] s) : ∀ (l0 : Option Nat) (l1 : Option Nat) (l2 : Option Nat) (l3 : Option Nat) (l4 : Int32)  (s : gS), f_L_law_23b (gk E) F k23 l0 l1 l2 l3 l4 s = some (r, s') → W_L_law E r 23 [(0, vR l0), (1, vR l1), (2, vR l2), (3, vR l3), (4, vI l4)] [] s := by
  intro l0 l1 l2 l3 l4 s hB
  unfold f_L_law_23b at hB
  refine gw_iload 4 rfl dL_law_23 ?_
  refine gw_aload_n 0 rfl dL_law_25 ?_
  obtain ⟨v1, hv1, hB⟩ := gB1_some hB
  refine gw_alenX hX hv1 dL_law_26 ?_
  refine gw_iconst (v := (3 : Int32)) (by decide) dL_law_27 ?_
  refine gw_isub dL_law_28 ?_
  refine gw_icmp_gt (tgt := 1411) dL_law_29 (by decide) (fun hcnd => ?_) (fun hcnd => ?_)
  · rw [if_pos hcnd] at hB
    refine gw_iconst (v := (1 : Int32)) (by decide) dL_law_1411 ?_
    obtain ⟨u, hu, hB⟩ := gB1_some hB
    obtain ⟨u2, hu2, hB⟩ := gB1_some hB
    obtain ⟨rfl, rfl⟩ := Prod.mk.inj (Option.some.inj hB)
    exact gl_ret rfl rfl rfl rfl rfl hu hu2 dL_law_1412
  · rw [if_neg hcnd] at hB
    refine gw_aload_n 0 rfl dL_law_32 ?_
    refine gw_iload 4 rfl dL_law_33 ?_
    obtain ⟨v2, hv2, hB⟩ := gB1_some hB
    refine gw_ialdX hX hv2 dL_law_35 ?_
    refine gw_bipush (v := (31 : Int32)) (by decide) dL_law_36 ?_
    refine gw_iand dL_law_38 ?_
    by_cases hs0 : (v2 &&& (31 : Int32)) = (0 : Int32)
    · rw [if_pos hs0] at hB
      refine gw_tableIn (off := 113) (tgt := 152) (by rw [hs0]; decide) (by rw [hs0]; decide) (by rw [hs0]; rfl) dL_law_39 (by decide) ?_
      refine gw_aload_n 1 rfl dL_law_152 ?_
      refine gw_aload_n 3 rfl dL_law_153 ?_
      obtain ⟨v4, s3, hv4, hB⟩ := gB2_some hB
      refine gw_callSW (y := yX0_begin) (lw_SW q2494 q2495 q107 q2496) hdS_X0_begin (As := [vR l1, vR l3]) (rest := []) (m_X0_begin _ _ _ _ _ hv4) (Nat.le_of_ble_eq_true rfl) (Nat.le_of_ble_eq_true rfl) rfl (Nat.le_of_ble_eq_true rfl) dL_law_154 (gCont_i ?_)
      refine gw_istore (L' := [(5, vI v4), (0, vR l0), (1, vR l1), (2, vR l2), (3, vR l3), (4, vI l4)]) (Nat.le_of_ble_eq_true rfl) rfl dL_law_157 ?_
      refine gw_aload_n 3 rfl dL_law_159 ?_
      obtain ⟨u0, hu7, hB⟩ := gB1_some hB
      obtain ⟨v6, s5, hv6, hB⟩ := gB2_some hB
      refine gw_callV (y := yX6_begin) (lw_V q2738 q2739 q2740 q143 q2741) hdV_X6_begin gcl9 hu7 (As := []) (rest := []) (m_X6_begin _ _ _ _ hv6) (Nat.le_of_ble_eq_true rfl) (Nat.le_of_ble_eq_true rfl) rfl (Nat.le_of_ble_eq_true rfl) dL_law_160 (gCont_i ?_)
      refine gw_istore (L' := [(6, vI v6), (5, vI v4), (0, vR l0), (1, vR l1), (2, vR l2), (3, vR l3), (4, vI l4)]) (Nat.le_of_ble_eq_true rfl) rfl dL_law_163 ?_
      refine gw_aload_n 4 rfl dL_law_165 ?_
      obtain ⟨u0, hu10, hB⟩ := gB1_some hB
      obtain ⟨v9, s8, hv9, hB⟩ := gB2_some hB
      refine gw_callV (y := yX6_thrown) (lw_V q2734 q2735 q2736 q143 q2737) hdV_X6_thrown gcl9 hu10 (As := []) (rest := []) (m_X6_thrown _ _ _ _ hv9) (Nat.le_of_ble_eq_true rfl) (Nat.le_of_ble_eq_true rfl) rfl (Nat.le_of_ble_eq_true rfl) dL_law_166 (gCont_i ?_)
      refine gw_iload 1 rfl dL_law_169 ?_
      refine gw_icmp_eq (tgt := 176) dL_law_171 (by decide) (fun hcnd => ?_) (fun hcnd => ?_)
      · rw [if_pos hcnd] at hB
        refine gw_iload 1 rfl dL_law_176 ?_
        refine gw_if_ne (tgt := 193) dL_law_178 (by decide) (fun hcnd => ?_) (fun hcnd => ?_)
        · rw [if_neg hcnd] at hB
          exact gw_sub [2, 3, 4, 5, 6] rfl (w_L_law_193 hX hk23 _ _ _ _ _ _ hB)
        · rw [if_pos hcnd] at hB
          refine gw_aload_n 5 rfl dL_law_181 ?_
          refine gw_iconst (v := (0 : Int32)) (by decide) dL_law_182 ?_
          obtain ⟨v11, hv11, hB⟩ := gB1_some hB
          refine gw_laload hv11 dL_law_183 ?_
          refine gw_iload 0 rfl dL_law_184 ?_
          refine gw_i2l dL_law_186 ?_
          refine gw_lcmp dL_law_187 ?_
          refine gw_if_eq (tgt := 193) dL_law_188 (by decide) (fun hcnd => ?_) (fun hcnd => ?_)
          · rw [if_pos hcnd] at hB
            exact gw_sub [2, 3, 4, 5, 6] rfl (w_L_law_193 hX hk23 _ _ _ _ _ _ hB)
          · rw [if_neg hcnd] at hB
            refine gw_iconst (v := (0 : Int32)) (by decide) dL_law_191 ?_
            obtain ⟨u, hu, hB⟩ := gB1_some hB
            obtain ⟨u2, hu2, hB⟩ := gB1_some hB
            obtain ⟨rfl, rfl⟩ := Prod.mk.inj (Option.some.inj hB)
            exact gl_ret rfl rfl rfl rfl rfl hu hu2 dL_law_192
      · rw [if_neg hcnd] at hB
        refine gw_iconst (v := (0 : Int32)) (by decide) dL_law_174 ?_
        obtain ⟨u, hu, hB⟩ := gB1_some hB
        obtain ⟨u2, hu2, hB⟩ := gB1_some hB
        obtain ⟨rfl, rfl⟩ := Prod.mk.inj (Option.some.inj hB)
        exact gl_ret rfl rfl rfl rfl rfl hu hu2 dL_law_175
    rw [if_neg hs0] at hB
    by_cases hs1 : (v2 &&& (31 : Int32)) = (1 : Int32)
    · rw [if_pos hs1] at hB
      refine gw_tableIn (off := 157) (tgt := 196) (by rw [hs1]; decide) (by rw [hs1]; decide) (by rw [hs1]; rfl) dL_law_39 (by decide) ?_
      refine gw_aload_n 1 rfl dL_law_196 ?_
      refine gw_aload_n 0 rfl dL_law_197 ?_
      refine gw_iload 4 rfl dL_law_198 ?_
      refine gw_iconst (v := (1 : Int32)) (by decide) dL_law_200 ?_
      refine gw_iadd dL_law_201 ?_
      obtain ⟨v12, hv12, hB⟩ := gB1_some hB
      refine gw_ialdX hX hv12 dL_law_202 ?_
      refine gw_aload_n 0 rfl dL_law_203 ?_
      refine gw_iload 4 rfl dL_law_204 ?_
      refine gw_iconst (v := (2 : Int32)) (by decide) dL_law_206 ?_
      refine gw_iadd dL_law_207 ?_
      obtain ⟨v13, hv13, hB⟩ := gB1_some hB
      refine gw_ialdX hX hv13 dL_law_208 ?_
      refine gw_aload_n 3 rfl dL_law_209 ?_
      obtain ⟨v15, s14, hv15, hB⟩ := gB2_some hB
      refine gw_callSW (y := yX0_put) (lw_SW q2502 q2503 q107 q2504) hdS_X0_put (As := [vR l1, vI v12, vI v13, vR l3]) (rest := []) (m_X0_put _ _ _ _ _ _ _ hv15) (Nat.le_of_ble_eq_true rfl) (Nat.le_of_ble_eq_true rfl) rfl (Nat.le_of_ble_eq_true rfl) dL_law_210 (gCont_i ?_)
      refine gw_istore (L' := [(5, vI v15), (0, vR l0), (1, vR l1), (2, vR l2), (3, vR l3), (4, vI l4)]) (Nat.le_of_ble_eq_true rfl) rfl dL_law_213 ?_
      refine gw_aload_n 3 rfl dL_law_215 ?_
      refine gw_aload_n 1 rfl dL_law_216 ?_
      refine gw_iload 5 rfl dL_law_217 ?_
      refine gw_iconst (v := (1 : Int32)) (by decide) dL_law_219 ?_
      refine gw_iadd dL_law_220 ?_
      obtain ⟨v16, hv16, hB⟩ := gB1_some hB
      refine gw_ialdX hX hv16 dL_law_221 ?_
      refine gw_aload_n 1 rfl dL_law_222 ?_
      refine gw_iload 5 rfl dL_law_223 ?_
      refine gw_iconst (v := (2 : Int32)) (by decide) dL_law_225 ?_
      refine gw_iadd dL_law_226 ?_
      obtain ⟨v17, hv17, hB⟩ := gB1_some hB
      refine gw_ialdX hX hv17 dL_law_227 ?_
      obtain ⟨u0, hu20, hB⟩ := gB1_some hB
      obtain ⟨v19, s18, hv19, hB⟩ := gB2_some hB
      refine gw_callV (y := yX6_put) (lw_V q2769 q2770 q2771 q143 q2772) hdV_X6_put gcl9 hu20 (As := [vI v16, vI v17]) (rest := []) (m_X6_put _ _ _ _ _ _ hv19) (Nat.le_of_ble_eq_true rfl) (Nat.le_of_ble_eq_true rfl) rfl (Nat.le_of_ble_eq_true rfl) dL_law_228 (gCont_i ?_)
      refine gw_istore (L' := [(6, vI v19), (5, vI v15), (0, vR l0), (1, vR l1), (2, vR l2), (3, vR l3), (4, vI l4)]) (Nat.le_of_ble_eq_true rfl) rfl dL_law_231 ?_
      refine gw_aload_n 4 rfl dL_law_233 ?_
      obtain ⟨u0, hu23, hB⟩ := gB1_some hB
      obtain ⟨v22, s21, hv22, hB⟩ := gB2_some hB
      refine gw_callV (y := yX6_thrown) (lw_V q2734 q2735 q2736 q143 q2737) hdV_X6_thrown gcl9 hu23 (As := []) (rest := []) (m_X6_thrown _ _ _ _ hv22) (Nat.le_of_ble_eq_true rfl) (Nat.le_of_ble_eq_true rfl) rfl (Nat.le_of_ble_eq_true rfl) dL_law_234 (gCont_i ?_)
      refine gw_iload 1 rfl dL_law_237 ?_
      refine gw_icmp_eq (tgt := 244) dL_law_239 (by decide) (fun hcnd => ?_) (fun hcnd => ?_)
      · rw [if_pos hcnd] at hB
        refine gw_iload 1 rfl dL_law_244 ?_
        refine gw_if_ne (tgt := 261) dL_law_246 (by decide) (fun hcnd => ?_) (fun hcnd => ?_)
        · rw [if_neg hcnd] at hB
          exact gw_sub [2, 3, 4, 5, 6] rfl (w_L_law_261 hX hk23 _ _ _ _ _ _ hB)
        · rw [if_pos hcnd] at hB
          refine gw_aload_n 5 rfl dL_law_249 ?_
          refine gw_iconst (v := (0 : Int32)) (by decide) dL_law_250 ?_
          obtain ⟨v24, hv24, hB⟩ := gB1_some hB
          refine gw_laload hv24 dL_law_251 ?_
          refine gw_iload 0 rfl dL_law_252 ?_
          refine gw_i2l dL_law_254 ?_
          refine gw_lcmp dL_law_255 ?_
          refine gw_if_eq (tgt := 261) dL_law_256 (by decide) (fun hcnd => ?_) (fun hcnd => ?_)
          · rw [if_pos hcnd] at hB
            exact gw_sub [2, 3, 4, 5, 6] rfl (w_L_law_261 hX hk23 _ _ _ _ _ _ hB)
          · rw [if_neg hcnd] at hB
            refine gw_iconst (v := (0 : Int32)) (by decide) dL_law_259 ?_
            obtain ⟨u, hu, hB⟩ := gB1_some hB
            obtain ⟨u2, hu2, hB⟩ := gB1_some hB
            obtain ⟨rfl, rfl⟩ := Prod.mk.inj (Option.some.inj hB)
            exact gl_ret rfl rfl rfl rfl rfl hu hu2 dL_law_260
      · rw [if_neg hcnd] at hB
        refine gw_iconst (v := (0 : Int32)) (by decide) dL_law_242 ?_
        obtain ⟨u, hu, hB⟩ := gB1_some hB
        obtain ⟨u2, hu2, hB⟩ := gB1_some hB
        obtain ⟨rfl, rfl⟩ := Prod.mk.inj (Option.some.inj hB)
        exact gl_ret rfl rfl rfl rfl rfl hu hu2 dL_law_243
    rw [if_neg hs1] at hB
    by_cases hs2 : (v2 &&& (31 : Int32)) = (2 : Int32)
    · rw [if_pos hs2] at hB
      refine gw_tableIn (off := 225) (tgt := 264) (by rw [hs2]; decide) (by rw [hs2]; decide) (by rw [hs2]; rfl) dL_law_39 (by decide) ?_
      refine gw_aload_n 1 rfl dL_law_264 ?_
      refine gw_aload_n 0 rfl dL_law_265 ?_
      refine gw_iload 4 rfl dL_law_266 ?_
      refine gw_iconst (v := (1 : Int32)) (by decide) dL_law_268 ?_
      refine gw_iadd dL_law_269 ?_
      obtain ⟨v25, hv25, hB⟩ := gB1_some hB
      refine gw_ialdX hX hv25 dL_law_270 ?_
      refine gw_aload_n 3 rfl dL_law_271 ?_
      obtain ⟨v27, s26, hv27, hB⟩ := gB2_some hB
      refine gw_callSW (y := yX0_remove) (lw_SW q2510 q2511 q107 q2512) hdS_X0_remove (As := [vR l1, vI v25, vR l3]) (rest := []) (m_X0_remove _ _ _ _ _ _ hv27) (Nat.le_of_ble_eq_true rfl) (Nat.le_of_ble_eq_true rfl) rfl (Nat.le_of_ble_eq_true rfl) dL_law_272 (gCont_i ?_)
      refine gw_istore (L' := [(5, vI v27), (0, vR l0), (1, vR l1), (2, vR l2), (3, vR l3), (4, vI l4)]) (Nat.le_of_ble_eq_true rfl) rfl dL_law_275 ?_
      refine gw_aload_n 3 rfl dL_law_277 ?_
      refine gw_aload_n 1 rfl dL_law_278 ?_
      refine gw_iload 5 rfl dL_law_279 ?_
      refine gw_iconst (v := (1 : Int32)) (by decide) dL_law_281 ?_
      refine gw_iadd dL_law_282 ?_
      obtain ⟨v28, hv28, hB⟩ := gB1_some hB
      refine gw_ialdX hX hv28 dL_law_283 ?_
      obtain ⟨u0, hu31, hB⟩ := gB1_some hB
      obtain ⟨v30, s29, hv30, hB⟩ := gB2_some hB
      refine gw_callV (y := yX6_remove) (lw_V q2880 q2881 q2882 q143 q2883) hdV_X6_remove gcl9 hu31 (As := [vI v28]) (rest := []) (m_X6_remove _ _ _ _ _ hv30) (Nat.le_of_ble_eq_true rfl) (Nat.le_of_ble_eq_true rfl) rfl (Nat.le_of_ble_eq_true rfl) dL_law_284 (gCont_i ?_)
      refine gw_istore (L' := [(6, vI v30), (5, vI v27), (0, vR l0), (1, vR l1), (2, vR l2), (3, vR l3), (4, vI l4)]) (Nat.le_of_ble_eq_true rfl) rfl dL_law_287 ?_
      refine gw_aload_n 4 rfl dL_law_289 ?_
      obtain ⟨u0, hu34, hB⟩ := gB1_some hB
      obtain ⟨v33, s32, hv33, hB⟩ := gB2_some hB
      refine gw_callV (y := yX6_thrown) (lw_V q2734 q2735 q2736 q143 q2737) hdV_X6_thrown gcl9 hu34 (As := []) (rest := []) (m_X6_thrown _ _ _ _ hv33) (Nat.le_of_ble_eq_true rfl) (Nat.le_of_ble_eq_true rfl) rfl (Nat.le_of_ble_eq_true rfl) dL_law_290 (gCont_i ?_)
      refine gw_iload 1 rfl dL_law_293 ?_
      refine gw_icmp_eq (tgt := 300) dL_law_295 (by decide) (fun hcnd => ?_) (fun hcnd => ?_)
      · rw [if_pos hcnd] at hB
        refine gw_iload 1 rfl dL_law_300 ?_
        refine gw_if_ne (tgt := 317) dL_law_302 (by decide) (fun hcnd => ?_) (fun hcnd => ?_)
        · rw [if_neg hcnd] at hB
          exact gw_sub [2, 3, 4, 5, 6] rfl (w_L_law_317 hX hk23 _ _ _ _ _ _ hB)
        · rw [if_pos hcnd] at hB
          refine gw_aload_n 5 rfl dL_law_305 ?_
          refine gw_iconst (v := (0 : Int32)) (by decide) dL_law_306 ?_
          obtain ⟨v35, hv35, hB⟩ := gB1_some hB
          refine gw_laload hv35 dL_law_307 ?_
          refine gw_iload 0 rfl dL_law_308 ?_
          refine gw_i2l dL_law_310 ?_
          refine gw_lcmp dL_law_311 ?_
          refine gw_if_eq (tgt := 317) dL_law_312 (by decide) (fun hcnd => ?_) (fun hcnd => ?_)
          · rw [if_pos hcnd] at hB
            exact gw_sub [2, 3, 4, 5, 6] rfl (w_L_law_317 hX hk23 _ _ _ _ _ _ hB)
          · rw [if_neg hcnd] at hB
            refine gw_iconst (v := (0 : Int32)) (by decide) dL_law_315 ?_
            obtain ⟨u, hu, hB⟩ := gB1_some hB
            obtain ⟨u2, hu2, hB⟩ := gB1_some hB
            obtain ⟨rfl, rfl⟩ := Prod.mk.inj (Option.some.inj hB)
            exact gl_ret rfl rfl rfl rfl rfl hu hu2 dL_law_316
      · rw [if_neg hcnd] at hB
        refine gw_iconst (v := (0 : Int32)) (by decide) dL_law_298 ?_
        obtain ⟨u, hu, hB⟩ := gB1_some hB
        obtain ⟨u2, hu2, hB⟩ := gB1_some hB
        obtain ⟨rfl, rfl⟩ := Prod.mk.inj (Option.some.inj hB)
        exact gl_ret rfl rfl rfl rfl rfl hu hu2 dL_law_299
    rw [if_neg hs2] at hB
    by_cases hs3 : (v2 &&& (31 : Int32)) = (3 : Int32)
    · rw [if_pos hs3] at hB
      refine gw_tableIn (off := 281) (tgt := 320) (by rw [hs3]; decide) (by rw [hs3]; decide) (by rw [hs3]; rfl) dL_law_39 (by decide) ?_
      refine gw_aload_n 1 rfl dL_law_320 ?_
      refine gw_aload_n 0 rfl dL_law_321 ?_
      refine gw_iload 4 rfl dL_law_322 ?_
      refine gw_iconst (v := (1 : Int32)) (by decide) dL_law_324 ?_
      refine gw_iadd dL_law_325 ?_
      obtain ⟨v36, hv36, hB⟩ := gB1_some hB
      refine gw_ialdX hX hv36 dL_law_326 ?_
      refine gw_aload_n 3 rfl dL_law_327 ?_
      obtain ⟨v38, s37, hv38, hB⟩ := gB2_some hB
      refine gw_callSW (y := yX0_commit) (lw_SW q2517 q2518 q107 q2519) hdS_X0_commit (As := [vR l1, vI v36, vR l3]) (rest := []) (m_X0_commit _ _ _ _ _ _ hv38) (Nat.le_of_ble_eq_true rfl) (Nat.le_of_ble_eq_true rfl) rfl (Nat.le_of_ble_eq_true rfl) dL_law_328 (gCont_i ?_)
      refine gw_istore (L' := [(5, vI v38), (0, vR l0), (1, vR l1), (2, vR l2), (3, vR l3), (4, vI l4)]) (Nat.le_of_ble_eq_true rfl) rfl dL_law_331 ?_
      refine gw_aload_n 3 rfl dL_law_333 ?_
      refine gw_aload_n 1 rfl dL_law_334 ?_
      refine gw_iload 5 rfl dL_law_335 ?_
      refine gw_iconst (v := (1 : Int32)) (by decide) dL_law_337 ?_
      refine gw_iadd dL_law_338 ?_
      obtain ⟨v39, hv39, hB⟩ := gB1_some hB
      refine gw_ialdX hX hv39 dL_law_339 ?_
      obtain ⟨u0, hu42, hB⟩ := gB1_some hB
      obtain ⟨v41, s40, hv41, hB⟩ := gB2_some hB
      refine gw_callV (y := yX6_commit) (lw_V q2892 q2893 q2894 q143 q2895) hdV_X6_commit gcl9 hu42 (As := [vI v39]) (rest := []) (m_X6_commit _ _ _ _ _ hv41) (Nat.le_of_ble_eq_true rfl) (Nat.le_of_ble_eq_true rfl) rfl (Nat.le_of_ble_eq_true rfl) dL_law_340 (gCont_i ?_)
      refine gw_istore (L' := [(6, vI v41), (5, vI v38), (0, vR l0), (1, vR l1), (2, vR l2), (3, vR l3), (4, vI l4)]) (Nat.le_of_ble_eq_true rfl) rfl dL_law_343 ?_
      refine gw_aload_n 4 rfl dL_law_345 ?_
      obtain ⟨u0, hu45, hB⟩ := gB1_some hB
      obtain ⟨v44, s43, hv44, hB⟩ := gB2_some hB
      refine gw_callV (y := yX6_thrown) (lw_V q2734 q2735 q2736 q143 q2737) hdV_X6_thrown gcl9 hu45 (As := []) (rest := []) (m_X6_thrown _ _ _ _ hv44) (Nat.le_of_ble_eq_true rfl) (Nat.le_of_ble_eq_true rfl) rfl (Nat.le_of_ble_eq_true rfl) dL_law_346 (gCont_i ?_)
      refine gw_iload 1 rfl dL_law_349 ?_
      refine gw_icmp_eq (tgt := 356) dL_law_351 (by decide) (fun hcnd => ?_) (fun hcnd => ?_)
      · rw [if_pos hcnd] at hB
        refine gw_iload 1 rfl dL_law_356 ?_
        refine gw_if_ne (tgt := 373) dL_law_358 (by decide) (fun hcnd => ?_) (fun hcnd => ?_)
        · rw [if_neg hcnd] at hB
          exact gw_sub [2, 3, 4, 5, 6] rfl (w_L_law_373 hX hk23 _ _ _ _ _ _ hB)
        · rw [if_pos hcnd] at hB
          refine gw_aload_n 5 rfl dL_law_361 ?_
          refine gw_iconst (v := (0 : Int32)) (by decide) dL_law_362 ?_
          obtain ⟨v46, hv46, hB⟩ := gB1_some hB
          refine gw_laload hv46 dL_law_363 ?_
          refine gw_iload 0 rfl dL_law_364 ?_
          refine gw_i2l dL_law_366 ?_
          refine gw_lcmp dL_law_367 ?_
          refine gw_if_eq (tgt := 373) dL_law_368 (by decide) (fun hcnd => ?_) (fun hcnd => ?_)
          · rw [if_pos hcnd] at hB
            exact gw_sub [2, 3, 4, 5, 6] rfl (w_L_law_373 hX hk23 _ _ _ _ _ _ hB)
          · rw [if_neg hcnd] at hB
            refine gw_iconst (v := (0 : Int32)) (by decide) dL_law_371 ?_
            obtain ⟨u, hu, hB⟩ := gB1_some hB
            obtain ⟨u2, hu2, hB⟩ := gB1_some hB
            obtain ⟨rfl, rfl⟩ := Prod.mk.inj (Option.some.inj hB)
            exact gl_ret rfl rfl rfl rfl rfl hu hu2 dL_law_372
      · rw [if_neg hcnd] at hB
        refine gw_iconst (v := (0 : Int32)) (by decide) dL_law_354 ?_
        obtain ⟨u, hu, hB⟩ := gB1_some hB
        obtain ⟨u2, hu2, hB⟩ := gB1_some hB
        obtain ⟨rfl, rfl⟩ := Prod.mk.inj (Option.some.inj hB)
        exact gl_ret rfl rfl rfl rfl rfl hu hu2 dL_law_355
    rw [if_neg hs3] at hB
    by_cases hs4 : (v2 &&& (31 : Int32)) = (4 : Int32)
    · rw [if_pos hs4] at hB
      refine gw_tableIn (off := 337) (tgt := 376) (by rw [hs4]; decide) (by rw [hs4]; decide) (by rw [hs4]; rfl) dL_law_39 (by decide) ?_
      refine gw_aload_n 1 rfl dL_law_376 ?_
      refine gw_aload_n 3 rfl dL_law_377 ?_
      obtain ⟨v48, s47, hv48, hB⟩ := gB2_some hB
      refine gw_callSW (y := yX0_abort) (lw_SW q2524 q2525 q107 q2526) hdS_X0_abort (As := [vR l1, vR l3]) (rest := []) (m_X0_abort _ _ _ _ _ hv48) (Nat.le_of_ble_eq_true rfl) (Nat.le_of_ble_eq_true rfl) rfl (Nat.le_of_ble_eq_true rfl) dL_law_378 (gCont_i ?_)
      refine gw_istore (L' := [(5, vI v48), (0, vR l0), (1, vR l1), (2, vR l2), (3, vR l3), (4, vI l4)]) (Nat.le_of_ble_eq_true rfl) rfl dL_law_381 ?_
      refine gw_aload_n 3 rfl dL_law_383 ?_
      obtain ⟨u0, hu51, hB⟩ := gB1_some hB
      obtain ⟨v50, s49, hv50, hB⟩ := gB2_some hB
      refine gw_callV (y := yX6_abort) (lw_V q2908 q2909 q2910 q143 q2911) hdV_X6_abort gcl9 hu51 (As := []) (rest := []) (m_X6_abort _ _ _ _ hv50) (Nat.le_of_ble_eq_true rfl) (Nat.le_of_ble_eq_true rfl) rfl (Nat.le_of_ble_eq_true rfl) dL_law_384 (gCont_i ?_)
      refine gw_istore (L' := [(6, vI v50), (5, vI v48), (0, vR l0), (1, vR l1), (2, vR l2), (3, vR l3), (4, vI l4)]) (Nat.le_of_ble_eq_true rfl) rfl dL_law_387 ?_
      refine gw_aload_n 4 rfl dL_law_389 ?_
      obtain ⟨u0, hu54, hB⟩ := gB1_some hB
      obtain ⟨v53, s52, hv53, hB⟩ := gB2_some hB
      refine gw_callV (y := yX6_thrown) (lw_V q2734 q2735 q2736 q143 q2737) hdV_X6_thrown gcl9 hu54 (As := []) (rest := []) (m_X6_thrown _ _ _ _ hv53) (Nat.le_of_ble_eq_true rfl) (Nat.le_of_ble_eq_true rfl) rfl (Nat.le_of_ble_eq_true rfl) dL_law_390 (gCont_i ?_)
      refine gw_iload 1 rfl dL_law_393 ?_
      refine gw_icmp_eq (tgt := 400) dL_law_395 (by decide) (fun hcnd => ?_) (fun hcnd => ?_)
      · rw [if_pos hcnd] at hB
        refine gw_iload 1 rfl dL_law_400 ?_
        refine gw_if_ne (tgt := 417) dL_law_402 (by decide) (fun hcnd => ?_) (fun hcnd => ?_)
        · rw [if_neg hcnd] at hB
          exact gw_sub [2, 3, 4, 5, 6] rfl (w_L_law_417 hX hk23 _ _ _ _ _ _ hB)
        · rw [if_pos hcnd] at hB
          refine gw_aload_n 5 rfl dL_law_405 ?_
          refine gw_iconst (v := (0 : Int32)) (by decide) dL_law_406 ?_
          obtain ⟨v55, hv55, hB⟩ := gB1_some hB
          refine gw_laload hv55 dL_law_407 ?_
          refine gw_iload 0 rfl dL_law_408 ?_
          refine gw_i2l dL_law_410 ?_
          refine gw_lcmp dL_law_411 ?_
          refine gw_if_eq (tgt := 417) dL_law_412 (by decide) (fun hcnd => ?_) (fun hcnd => ?_)
          · rw [if_pos hcnd] at hB
            exact gw_sub [2, 3, 4, 5, 6] rfl (w_L_law_417 hX hk23 _ _ _ _ _ _ hB)
          · rw [if_neg hcnd] at hB
            refine gw_iconst (v := (0 : Int32)) (by decide) dL_law_415 ?_
            obtain ⟨u, hu, hB⟩ := gB1_some hB
            obtain ⟨u2, hu2, hB⟩ := gB1_some hB
            obtain ⟨rfl, rfl⟩ := Prod.mk.inj (Option.some.inj hB)
            exact gl_ret rfl rfl rfl rfl rfl hu hu2 dL_law_416
      · rw [if_neg hcnd] at hB
        refine gw_iconst (v := (0 : Int32)) (by decide) dL_law_398 ?_
        obtain ⟨u, hu, hB⟩ := gB1_some hB
        obtain ⟨u2, hu2, hB⟩ := gB1_some hB
        obtain ⟨rfl, rfl⟩ := Prod.mk.inj (Option.some.inj hB)
        exact gl_ret rfl rfl rfl rfl rfl hu hu2 dL_law_399
    rw [if_neg hs4] at hB
    by_cases hs5 : (v2 &&& (31 : Int32)) = (5 : Int32)
    · rw [if_pos hs5] at hB
      refine gw_tableIn (off := 381) (tgt := 420) (by rw [hs5]; decide) (by rw [hs5]; decide) (by rw [hs5]; rfl) dL_law_39 (by decide) ?_
      refine gw_aload_n 1 rfl dL_law_420 ?_
      refine gw_aload_n 3 rfl dL_law_421 ?_
      obtain ⟨v57, s56, hv57, hB⟩ := gB2_some hB
      refine gw_callSW (y := yX0_open) (lw_SW q2531 q2532 q107 q2533) hdS_X0_open (As := [vR l1, vR l3]) (rest := []) (m_X0_open _ _ _ _ _ hv57) (Nat.le_of_ble_eq_true rfl) (Nat.le_of_ble_eq_true rfl) rfl (Nat.le_of_ble_eq_true rfl) dL_law_422 (gCont_i ?_)
      refine gw_istore (L' := [(5, vI v57), (0, vR l0), (1, vR l1), (2, vR l2), (3, vR l3), (4, vI l4)]) (Nat.le_of_ble_eq_true rfl) rfl dL_law_425 ?_
      refine gw_aload_n 3 rfl dL_law_427 ?_
      obtain ⟨u0, hu60, hB⟩ := gB1_some hB
      obtain ⟨v59, s58, hv59, hB⟩ := gB2_some hB
      refine gw_callV (y := yX6_open) (lw_V q2916 q2917 q2918 q143 q2919) hdV_X6_open gcl9 hu60 (As := []) (rest := []) (m_X6_open _ _ _ _ hv59) (Nat.le_of_ble_eq_true rfl) (Nat.le_of_ble_eq_true rfl) rfl (Nat.le_of_ble_eq_true rfl) dL_law_428 (gCont_i ?_)
      refine gw_istore (L' := [(6, vI v59), (5, vI v57), (0, vR l0), (1, vR l1), (2, vR l2), (3, vR l3), (4, vI l4)]) (Nat.le_of_ble_eq_true rfl) rfl dL_law_431 ?_
      refine gw_aload_n 4 rfl dL_law_433 ?_
      obtain ⟨u0, hu63, hB⟩ := gB1_some hB
      obtain ⟨v62, s61, hv62, hB⟩ := gB2_some hB
      refine gw_callV (y := yX6_thrown) (lw_V q2734 q2735 q2736 q143 q2737) hdV_X6_thrown gcl9 hu63 (As := []) (rest := []) (m_X6_thrown _ _ _ _ hv62) (Nat.le_of_ble_eq_true rfl) (Nat.le_of_ble_eq_true rfl) rfl (Nat.le_of_ble_eq_true rfl) dL_law_434 (gCont_i ?_)
      refine gw_iload 1 rfl dL_law_437 ?_
      refine gw_icmp_eq (tgt := 444) dL_law_439 (by decide) (fun hcnd => ?_) (fun hcnd => ?_)
      · rw [if_pos hcnd] at hB
        refine gw_iload 1 rfl dL_law_444 ?_
        refine gw_if_ne (tgt := 461) dL_law_446 (by decide) (fun hcnd => ?_) (fun hcnd => ?_)
        · rw [if_neg hcnd] at hB
          exact gw_sub [2, 3, 4, 5, 6] rfl (w_L_law_461 hX hk23 _ _ _ _ _ _ hB)
        · rw [if_pos hcnd] at hB
          refine gw_aload_n 5 rfl dL_law_449 ?_
          refine gw_iconst (v := (0 : Int32)) (by decide) dL_law_450 ?_
          obtain ⟨v64, hv64, hB⟩ := gB1_some hB
          refine gw_laload hv64 dL_law_451 ?_
          refine gw_iload 0 rfl dL_law_452 ?_
          refine gw_i2l dL_law_454 ?_
          refine gw_lcmp dL_law_455 ?_
          refine gw_if_eq (tgt := 461) dL_law_456 (by decide) (fun hcnd => ?_) (fun hcnd => ?_)
          · rw [if_pos hcnd] at hB
            exact gw_sub [2, 3, 4, 5, 6] rfl (w_L_law_461 hX hk23 _ _ _ _ _ _ hB)
          · rw [if_neg hcnd] at hB
            refine gw_iconst (v := (0 : Int32)) (by decide) dL_law_459 ?_
            obtain ⟨u, hu, hB⟩ := gB1_some hB
            obtain ⟨u2, hu2, hB⟩ := gB1_some hB
            obtain ⟨rfl, rfl⟩ := Prod.mk.inj (Option.some.inj hB)
            exact gl_ret rfl rfl rfl rfl rfl hu hu2 dL_law_460
      · rw [if_neg hcnd] at hB
        refine gw_iconst (v := (0 : Int32)) (by decide) dL_law_442 ?_
        obtain ⟨u, hu, hB⟩ := gB1_some hB
        obtain ⟨u2, hu2, hB⟩ := gB1_some hB
        obtain ⟨rfl, rfl⟩ := Prod.mk.inj (Option.some.inj hB)
        exact gl_ret rfl rfl rfl rfl rfl hu hu2 dL_law_443
    rw [if_neg hs5] at hB
    by_cases hs6 : (v2 &&& (31 : Int32)) = (6 : Int32)
    · rw [if_pos hs6] at hB
      refine gw_tableIn (off := 425) (tgt := 464) (by rw [hs6]; decide) (by rw [hs6]; decide) (by rw [hs6]; rfl) dL_law_39 (by decide) ?_
      refine gw_aload_n 1 rfl dL_law_464 ?_
      refine gw_aload_n 0 rfl dL_law_465 ?_
      refine gw_iload 4 rfl dL_law_466 ?_
      refine gw_iconst (v := (1 : Int32)) (by decide) dL_law_468 ?_
      refine gw_iadd dL_law_469 ?_
      obtain ⟨v65, hv65, hB⟩ := gB1_some hB
      refine gw_ialdX hX hv65 dL_law_470 ?_
      refine gw_aload_n 3 rfl dL_law_471 ?_
      obtain ⟨v67, s66, hv67, hB⟩ := gB2_some hB
      refine gw_callSW (y := yX0_close) (lw_SW q2538 q2539 q107 q2540) hdS_X0_close (As := [vR l1, vI v65, vR l3]) (rest := []) (m_X0_close _ _ _ _ _ _ hv67) (Nat.le_of_ble_eq_true rfl) (Nat.le_of_ble_eq_true rfl) rfl (Nat.le_of_ble_eq_true rfl) dL_law_472 (gCont_i ?_)
      refine gw_istore (L' := [(5, vI v67), (0, vR l0), (1, vR l1), (2, vR l2), (3, vR l3), (4, vI l4)]) (Nat.le_of_ble_eq_true rfl) rfl dL_law_475 ?_
      refine gw_aload_n 3 rfl dL_law_477 ?_
      refine gw_aload_n 1 rfl dL_law_478 ?_
      refine gw_iload 5 rfl dL_law_479 ?_
      refine gw_iconst (v := (1 : Int32)) (by decide) dL_law_481 ?_
      refine gw_iadd dL_law_482 ?_
      obtain ⟨v68, hv68, hB⟩ := gB1_some hB
      refine gw_ialdX hX hv68 dL_law_483 ?_
      obtain ⟨u0, hu71, hB⟩ := gB1_some hB
      obtain ⟨v70, s69, hv70, hB⟩ := gB2_some hB
      refine gw_callV (y := yX6_close) (lw_V q2924 q2925 q2926 q143 q2927) hdV_X6_close gcl9 hu71 (As := [vI v68]) (rest := []) (m_X6_close _ _ _ _ _ hv70) (Nat.le_of_ble_eq_true rfl) (Nat.le_of_ble_eq_true rfl) rfl (Nat.le_of_ble_eq_true rfl) dL_law_484 (gCont_i ?_)
      refine gw_istore (L' := [(6, vI v70), (5, vI v67), (0, vR l0), (1, vR l1), (2, vR l2), (3, vR l3), (4, vI l4)]) (Nat.le_of_ble_eq_true rfl) rfl dL_law_487 ?_
      refine gw_aload_n 4 rfl dL_law_489 ?_
      obtain ⟨u0, hu74, hB⟩ := gB1_some hB
      obtain ⟨v73, s72, hv73, hB⟩ := gB2_some hB
      refine gw_callV (y := yX6_thrown) (lw_V q2734 q2735 q2736 q143 q2737) hdV_X6_thrown gcl9 hu74 (As := []) (rest := []) (m_X6_thrown _ _ _ _ hv73) (Nat.le_of_ble_eq_true rfl) (Nat.le_of_ble_eq_true rfl) rfl (Nat.le_of_ble_eq_true rfl) dL_law_490 (gCont_i ?_)
      refine gw_iload 1 rfl dL_law_493 ?_
      refine gw_icmp_eq (tgt := 500) dL_law_495 (by decide) (fun hcnd => ?_) (fun hcnd => ?_)
      · rw [if_pos hcnd] at hB
        refine gw_iload 1 rfl dL_law_500 ?_
        refine gw_if_ne (tgt := 517) dL_law_502 (by decide) (fun hcnd => ?_) (fun hcnd => ?_)
        · rw [if_neg hcnd] at hB
          exact gw_sub [2, 3, 4, 5, 6] rfl (w_L_law_517 hX hk23 _ _ _ _ _ _ hB)
        · rw [if_pos hcnd] at hB
          refine gw_aload_n 5 rfl dL_law_505 ?_
          refine gw_iconst (v := (0 : Int32)) (by decide) dL_law_506 ?_
          obtain ⟨v75, hv75, hB⟩ := gB1_some hB
          refine gw_laload hv75 dL_law_507 ?_
          refine gw_iload 0 rfl dL_law_508 ?_
          refine gw_i2l dL_law_510 ?_
          refine gw_lcmp dL_law_511 ?_
          refine gw_if_eq (tgt := 517) dL_law_512 (by decide) (fun hcnd => ?_) (fun hcnd => ?_)
          · rw [if_pos hcnd] at hB
            exact gw_sub [2, 3, 4, 5, 6] rfl (w_L_law_517 hX hk23 _ _ _ _ _ _ hB)
          · rw [if_neg hcnd] at hB
            refine gw_iconst (v := (0 : Int32)) (by decide) dL_law_515 ?_
            obtain ⟨u, hu, hB⟩ := gB1_some hB
            obtain ⟨u2, hu2, hB⟩ := gB1_some hB
            obtain ⟨rfl, rfl⟩ := Prod.mk.inj (Option.some.inj hB)
            exact gl_ret rfl rfl rfl rfl rfl hu hu2 dL_law_516
      · rw [if_neg hcnd] at hB
        refine gw_iconst (v := (0 : Int32)) (by decide) dL_law_498 ?_
        obtain ⟨u, hu, hB⟩ := gB1_some hB
        obtain ⟨u2, hu2, hB⟩ := gB1_some hB
        obtain ⟨rfl, rfl⟩ := Prod.mk.inj (Option.some.inj hB)
        exact gl_ret rfl rfl rfl rfl rfl hu hu2 dL_law_499
    rw [if_neg hs6] at hB
    by_cases hs7 : (v2 &&& (31 : Int32)) = (7 : Int32)
    · rw [if_pos hs7] at hB
      refine gw_tableIn (off := 481) (tgt := 520) (by rw [hs7]; decide) (by rw [hs7]; decide) (by rw [hs7]; rfl) dL_law_39 (by decide) ?_
      refine gw_aload_n 1 rfl dL_law_520 ?_
      refine gw_aload_n 0 rfl dL_law_521 ?_
      refine gw_iload 4 rfl dL_law_522 ?_
      refine gw_iconst (v := (1 : Int32)) (by decide) dL_law_524 ?_
      refine gw_iadd dL_law_525 ?_
      obtain ⟨v76, hv76, hB⟩ := gB1_some hB
      refine gw_ialdX hX hv76 dL_law_526 ?_
      refine gw_aload_n 3 rfl dL_law_527 ?_
      obtain ⟨v78, s77, hv78, hB⟩ := gB2_some hB
      refine gw_callSW (y := yX0_get) (lw_SW q2546 q2547 q107 q2548) hdS_X0_get (As := [vR l1, vI v76, vR l3]) (rest := []) (m_X0_get _ _ _ _ _ _ hv78) (Nat.le_of_ble_eq_true rfl) (Nat.le_of_ble_eq_true rfl) rfl (Nat.le_of_ble_eq_true rfl) dL_law_528 (gCont_i ?_)
      refine gw_istore (L' := [(5, vI v78), (0, vR l0), (1, vR l1), (2, vR l2), (3, vR l3), (4, vI l4)]) (Nat.le_of_ble_eq_true rfl) rfl dL_law_531 ?_
      refine gw_aload_n 3 rfl dL_law_533 ?_
      refine gw_aload_n 1 rfl dL_law_534 ?_
      refine gw_iload 5 rfl dL_law_535 ?_
      refine gw_iconst (v := (1 : Int32)) (by decide) dL_law_537 ?_
      refine gw_iadd dL_law_538 ?_
      obtain ⟨v79, hv79, hB⟩ := gB1_some hB
      refine gw_ialdX hX hv79 dL_law_539 ?_
      obtain ⟨u0, hu82, hB⟩ := gB1_some hB
      obtain ⟨v81, s80, hv81, hB⟩ := gB2_some hB
      refine gw_callV (y := yX6_get) (lw_V q2936 q2937 q2938 q143 q2939) hdV_X6_get gcl9 hu82 (As := [vI v79]) (rest := []) (m_X6_get _ _ _ _ _ hv81) (Nat.le_of_ble_eq_true rfl) (Nat.le_of_ble_eq_true rfl) rfl (Nat.le_of_ble_eq_true rfl) dL_law_540 (gCont_i ?_)
      refine gw_istore (L' := [(6, vI v81), (5, vI v78), (0, vR l0), (1, vR l1), (2, vR l2), (3, vR l3), (4, vI l4)]) (Nat.le_of_ble_eq_true rfl) rfl dL_law_543 ?_
      refine gw_aload_n 4 rfl dL_law_545 ?_
      obtain ⟨u0, hu85, hB⟩ := gB1_some hB
      obtain ⟨v84, s83, hv84, hB⟩ := gB2_some hB
      refine gw_callV (y := yX6_thrown) (lw_V q2734 q2735 q2736 q143 q2737) hdV_X6_thrown gcl9 hu85 (As := []) (rest := []) (m_X6_thrown _ _ _ _ hv84) (Nat.le_of_ble_eq_true rfl) (Nat.le_of_ble_eq_true rfl) rfl (Nat.le_of_ble_eq_true rfl) dL_law_546 (gCont_i ?_)
      refine gw_iload 1 rfl dL_law_549 ?_
      refine gw_icmp_eq (tgt := 556) dL_law_551 (by decide) (fun hcnd => ?_) (fun hcnd => ?_)
      · rw [if_pos hcnd] at hB
        refine gw_iload 1 rfl dL_law_556 ?_
        refine gw_if_ne (tgt := 573) dL_law_558 (by decide) (fun hcnd => ?_) (fun hcnd => ?_)
        · rw [if_neg hcnd] at hB
          exact gw_sub [2, 3, 4, 5, 6] rfl (w_L_law_573 hX hk23 _ _ _ _ _ _ hB)
        · rw [if_pos hcnd] at hB
          refine gw_aload_n 5 rfl dL_law_561 ?_
          refine gw_iconst (v := (0 : Int32)) (by decide) dL_law_562 ?_
          obtain ⟨v86, hv86, hB⟩ := gB1_some hB
          refine gw_laload hv86 dL_law_563 ?_
          refine gw_iload 0 rfl dL_law_564 ?_
          refine gw_i2l dL_law_566 ?_
          refine gw_lcmp dL_law_567 ?_
          refine gw_if_eq (tgt := 573) dL_law_568 (by decide) (fun hcnd => ?_) (fun hcnd => ?_)
          · rw [if_pos hcnd] at hB
            exact gw_sub [2, 3, 4, 5, 6] rfl (w_L_law_573 hX hk23 _ _ _ _ _ _ hB)
          · rw [if_neg hcnd] at hB
            refine gw_iconst (v := (0 : Int32)) (by decide) dL_law_571 ?_
            obtain ⟨u, hu, hB⟩ := gB1_some hB
            obtain ⟨u2, hu2, hB⟩ := gB1_some hB
            obtain ⟨rfl, rfl⟩ := Prod.mk.inj (Option.some.inj hB)
            exact gl_ret rfl rfl rfl rfl rfl hu hu2 dL_law_572
      · rw [if_neg hcnd] at hB
        refine gw_iconst (v := (0 : Int32)) (by decide) dL_law_554 ?_
        obtain ⟨u, hu, hB⟩ := gB1_some hB
        obtain ⟨u2, hu2, hB⟩ := gB1_some hB
        obtain ⟨rfl, rfl⟩ := Prod.mk.inj (Option.some.inj hB)
        exact gl_ret rfl rfl rfl rfl rfl hu hu2 dL_law_555
    rw [if_neg hs7] at hB
    by_cases hs8 : (v2 &&& (31 : Int32)) = (8 : Int32)
    · rw [if_pos hs8] at hB
      refine gw_tableIn (off := 537) (tgt := 576) (by rw [hs8]; decide) (by rw [hs8]; decide) (by rw [hs8]; rfl) dL_law_39 (by decide) ?_
      refine gw_aload_n 1 rfl dL_law_576 ?_
      refine gw_aload_n 0 rfl dL_law_577 ?_
      refine gw_iload 4 rfl dL_law_578 ?_
      refine gw_iconst (v := (1 : Int32)) (by decide) dL_law_580 ?_
      refine gw_iadd dL_law_581 ?_
      obtain ⟨v87, hv87, hB⟩ := gB1_some hB
      refine gw_ialdX hX hv87 dL_law_582 ?_
      refine gw_aload_n 3 rfl dL_law_583 ?_
      obtain ⟨v89, s88, hv89, hB⟩ := gB2_some hB
      refine gw_callSW (y := yX0_drafted) (lw_SW q2558 q2559 q107 q2560) hdS_X0_drafted (As := [vR l1, vI v87, vR l3]) (rest := []) (m_X0_drafted _ _ _ _ _ _ hv89) (Nat.le_of_ble_eq_true rfl) (Nat.le_of_ble_eq_true rfl) rfl (Nat.le_of_ble_eq_true rfl) dL_law_584 (gCont_i ?_)
      refine gw_istore (L' := [(5, vI v89), (0, vR l0), (1, vR l1), (2, vR l2), (3, vR l3), (4, vI l4)]) (Nat.le_of_ble_eq_true rfl) rfl dL_law_587 ?_
      refine gw_aload_n 3 rfl dL_law_589 ?_
      refine gw_aload_n 1 rfl dL_law_590 ?_
      refine gw_iload 5 rfl dL_law_591 ?_
      refine gw_iconst (v := (1 : Int32)) (by decide) dL_law_593 ?_
      refine gw_iadd dL_law_594 ?_
      obtain ⟨v90, hv90, hB⟩ := gB1_some hB
      refine gw_ialdX hX hv90 dL_law_595 ?_
      obtain ⟨u0, hu93, hB⟩ := gB1_some hB
      obtain ⟨v92, s91, hv92, hB⟩ := gB2_some hB
      refine gw_callV (y := yX6_drafted) (lw_V q2947 q2948 q2949 q143 q2950) hdV_X6_drafted gcl9 hu93 (As := [vI v90]) (rest := []) (m_X6_drafted _ _ _ _ _ hv92) (Nat.le_of_ble_eq_true rfl) (Nat.le_of_ble_eq_true rfl) rfl (Nat.le_of_ble_eq_true rfl) dL_law_596 (gCont_i ?_)
      refine gw_istore (L' := [(6, vI v92), (5, vI v89), (0, vR l0), (1, vR l1), (2, vR l2), (3, vR l3), (4, vI l4)]) (Nat.le_of_ble_eq_true rfl) rfl dL_law_599 ?_
      refine gw_aload_n 4 rfl dL_law_601 ?_
      obtain ⟨u0, hu96, hB⟩ := gB1_some hB
      obtain ⟨v95, s94, hv95, hB⟩ := gB2_some hB
      refine gw_callV (y := yX6_thrown) (lw_V q2734 q2735 q2736 q143 q2737) hdV_X6_thrown gcl9 hu96 (As := []) (rest := []) (m_X6_thrown _ _ _ _ hv95) (Nat.le_of_ble_eq_true rfl) (Nat.le_of_ble_eq_true rfl) rfl (Nat.le_of_ble_eq_true rfl) dL_law_602 (gCont_i ?_)
      refine gw_iload 1 rfl dL_law_605 ?_
      refine gw_icmp_eq (tgt := 612) dL_law_607 (by decide) (fun hcnd => ?_) (fun hcnd => ?_)
      · rw [if_pos hcnd] at hB
        refine gw_iload 1 rfl dL_law_612 ?_
        refine gw_if_ne (tgt := 629) dL_law_614 (by decide) (fun hcnd => ?_) (fun hcnd => ?_)
        · rw [if_neg hcnd] at hB
          exact gw_sub [2, 3, 4, 5, 6] rfl (w_L_law_629 hX hk23 _ _ _ _ _ _ hB)
        · rw [if_pos hcnd] at hB
          refine gw_aload_n 5 rfl dL_law_617 ?_
          refine gw_iconst (v := (0 : Int32)) (by decide) dL_law_618 ?_
          obtain ⟨v97, hv97, hB⟩ := gB1_some hB
          refine gw_laload hv97 dL_law_619 ?_
          refine gw_iload 0 rfl dL_law_620 ?_
          refine gw_i2l dL_law_622 ?_
          refine gw_lcmp dL_law_623 ?_
          refine gw_if_eq (tgt := 629) dL_law_624 (by decide) (fun hcnd => ?_) (fun hcnd => ?_)
          · rw [if_pos hcnd] at hB
            exact gw_sub [2, 3, 4, 5, 6] rfl (w_L_law_629 hX hk23 _ _ _ _ _ _ hB)
          · rw [if_neg hcnd] at hB
            refine gw_iconst (v := (0 : Int32)) (by decide) dL_law_627 ?_
            obtain ⟨u, hu, hB⟩ := gB1_some hB
            obtain ⟨u2, hu2, hB⟩ := gB1_some hB
            obtain ⟨rfl, rfl⟩ := Prod.mk.inj (Option.some.inj hB)
            exact gl_ret rfl rfl rfl rfl rfl hu hu2 dL_law_628
      · rw [if_neg hcnd] at hB
        refine gw_iconst (v := (0 : Int32)) (by decide) dL_law_610 ?_
        obtain ⟨u, hu, hB⟩ := gB1_some hB
        obtain ⟨u2, hu2, hB⟩ := gB1_some hB
        obtain ⟨rfl, rfl⟩ := Prod.mk.inj (Option.some.inj hB)
        exact gl_ret rfl rfl rfl rfl rfl hu hu2 dL_law_611
    rw [if_neg hs8] at hB
    by_cases hs9 : (v2 &&& (31 : Int32)) = (9 : Int32)
    · rw [if_pos hs9] at hB
      refine gw_tableIn (off := 593) (tgt := 632) (by rw [hs9]; decide) (by rw [hs9]; decide) (by rw [hs9]; rfl) dL_law_39 (by decide) ?_
      refine gw_aload_n 1 rfl dL_law_632 ?_
      refine gw_aload_n 0 rfl dL_law_633 ?_
      refine gw_iload 4 rfl dL_law_634 ?_
      refine gw_iconst (v := (1 : Int32)) (by decide) dL_law_636 ?_
      refine gw_iadd dL_law_637 ?_
      obtain ⟨v98, hv98, hB⟩ := gB1_some hB
      refine gw_ialdX hX hv98 dL_law_638 ?_
      refine gw_aload_n 0 rfl dL_law_639 ?_
      refine gw_iload 4 rfl dL_law_640 ?_
      refine gw_iconst (v := (2 : Int32)) (by decide) dL_law_642 ?_
      refine gw_iadd dL_law_643 ?_
      obtain ⟨v99, hv99, hB⟩ := gB1_some hB
      refine gw_ialdX hX hv99 dL_law_644 ?_
      refine gw_aload_n 3 rfl dL_law_645 ?_
      obtain ⟨v101, s100, hv101, hB⟩ := gB2_some hB
      refine gw_callSW (y := yX0_read) (lw_SW q2565 q2566 q107 q2567) hdS_X0_read (As := [vR l1, vI v98, vI v99, vR l3]) (rest := []) (m_X0_read _ _ _ _ _ _ _ hv101) (Nat.le_of_ble_eq_true rfl) (Nat.le_of_ble_eq_true rfl) rfl (Nat.le_of_ble_eq_true rfl) dL_law_646 (gCont_i ?_)
      refine gw_istore (L' := [(5, vI v101), (0, vR l0), (1, vR l1), (2, vR l2), (3, vR l3), (4, vI l4)]) (Nat.le_of_ble_eq_true rfl) rfl dL_law_649 ?_
      refine gw_aload_n 3 rfl dL_law_651 ?_
      refine gw_aload_n 1 rfl dL_law_652 ?_
      refine gw_iload 5 rfl dL_law_653 ?_
      refine gw_iconst (v := (1 : Int32)) (by decide) dL_law_655 ?_
      refine gw_iadd dL_law_656 ?_
      obtain ⟨v102, hv102, hB⟩ := gB1_some hB
      refine gw_ialdX hX hv102 dL_law_657 ?_
      refine gw_aload_n 1 rfl dL_law_658 ?_
      refine gw_iload 5 rfl dL_law_659 ?_
      refine gw_iconst (v := (2 : Int32)) (by decide) dL_law_661 ?_
      refine gw_iadd dL_law_662 ?_
      obtain ⟨v103, hv103, hB⟩ := gB1_some hB
      refine gw_ialdX hX hv103 dL_law_663 ?_
      obtain ⟨u0, hu106, hB⟩ := gB1_some hB
      obtain ⟨v105, s104, hv105, hB⟩ := gB2_some hB
      refine gw_callV (y := yX6_read) (lw_V q2951 q2952 q2953 q143 q2954) hdV_X6_read gcl9 hu106 (As := [vI v102, vI v103]) (rest := []) (m_X6_read _ _ _ _ _ _ hv105) (Nat.le_of_ble_eq_true rfl) (Nat.le_of_ble_eq_true rfl) rfl (Nat.le_of_ble_eq_true rfl) dL_law_664 (gCont_i ?_)
      refine gw_istore (L' := [(6, vI v105), (5, vI v101), (0, vR l0), (1, vR l1), (2, vR l2), (3, vR l3), (4, vI l4)]) (Nat.le_of_ble_eq_true rfl) rfl dL_law_667 ?_
      refine gw_aload_n 4 rfl dL_law_669 ?_
      obtain ⟨u0, hu109, hB⟩ := gB1_some hB
      obtain ⟨v108, s107, hv108, hB⟩ := gB2_some hB
      refine gw_callV (y := yX6_thrown) (lw_V q2734 q2735 q2736 q143 q2737) hdV_X6_thrown gcl9 hu109 (As := []) (rest := []) (m_X6_thrown _ _ _ _ hv108) (Nat.le_of_ble_eq_true rfl) (Nat.le_of_ble_eq_true rfl) rfl (Nat.le_of_ble_eq_true rfl) dL_law_670 (gCont_i ?_)
      refine gw_iload 1 rfl dL_law_673 ?_
      refine gw_icmp_eq (tgt := 680) dL_law_675 (by decide) (fun hcnd => ?_) (fun hcnd => ?_)
      · rw [if_pos hcnd] at hB
        refine gw_iload 1 rfl dL_law_680 ?_
        refine gw_if_ne (tgt := 697) dL_law_682 (by decide) (fun hcnd => ?_) (fun hcnd => ?_)
        · rw [if_neg hcnd] at hB
          exact gw_sub [2, 3, 4, 5, 6] rfl (w_L_law_697 hX hk23 _ _ _ _ _ _ hB)
        · rw [if_pos hcnd] at hB
          refine gw_aload_n 5 rfl dL_law_685 ?_
          refine gw_iconst (v := (0 : Int32)) (by decide) dL_law_686 ?_
          obtain ⟨v110, hv110, hB⟩ := gB1_some hB
          refine gw_laload hv110 dL_law_687 ?_
          refine gw_iload 0 rfl dL_law_688 ?_
          refine gw_i2l dL_law_690 ?_
          refine gw_lcmp dL_law_691 ?_
          refine gw_if_eq (tgt := 697) dL_law_692 (by decide) (fun hcnd => ?_) (fun hcnd => ?_)
          · rw [if_pos hcnd] at hB
            exact gw_sub [2, 3, 4, 5, 6] rfl (w_L_law_697 hX hk23 _ _ _ _ _ _ hB)
          · rw [if_neg hcnd] at hB
            refine gw_iconst (v := (0 : Int32)) (by decide) dL_law_695 ?_
            obtain ⟨u, hu, hB⟩ := gB1_some hB
            obtain ⟨u2, hu2, hB⟩ := gB1_some hB
            obtain ⟨rfl, rfl⟩ := Prod.mk.inj (Option.some.inj hB)
            exact gl_ret rfl rfl rfl rfl rfl hu hu2 dL_law_696
      · rw [if_neg hcnd] at hB
        refine gw_iconst (v := (0 : Int32)) (by decide) dL_law_678 ?_
        obtain ⟨u, hu, hB⟩ := gB1_some hB
        obtain ⟨u2, hu2, hB⟩ := gB1_some hB
        obtain ⟨rfl, rfl⟩ := Prod.mk.inj (Option.some.inj hB)
        exact gl_ret rfl rfl rfl rfl rfl hu hu2 dL_law_679
    rw [if_neg hs9] at hB
    by_cases hs10 : (v2 &&& (31 : Int32)) = (10 : Int32)
    · rw [if_pos hs10] at hB
      refine gw_tableIn (off := 661) (tgt := 700) (by rw [hs10]; decide) (by rw [hs10]; decide) (by rw [hs10]; rfl) dL_law_39 (by decide) ?_
      refine gw_aload_n 1 rfl dL_law_700 ?_
      refine gw_aload_n 0 rfl dL_law_701 ?_
      refine gw_iload 4 rfl dL_law_702 ?_
      refine gw_iconst (v := (1 : Int32)) (by decide) dL_law_704 ?_
      refine gw_iadd dL_law_705 ?_
      obtain ⟨v111, hv111, hB⟩ := gB1_some hB
      refine gw_ialdX hX hv111 dL_law_706 ?_
      refine gw_aload_n 0 rfl dL_law_707 ?_
      refine gw_iload 4 rfl dL_law_708 ?_
      refine gw_iconst (v := (2 : Int32)) (by decide) dL_law_710 ?_
      refine gw_iadd dL_law_711 ?_
      obtain ⟨v112, hv112, hB⟩ := gB1_some hB
      refine gw_ialdX hX hv112 dL_law_712 ?_
      refine gw_aload_n 3 rfl dL_law_713 ?_
      obtain ⟨v114, s113, hv114, hB⟩ := gB2_some hB
      refine gw_callSW (y := yX0_entry) (lw_SW q2575 q2576 q107 q2577) hdS_X0_entry (As := [vR l1, vI v111, vI v112, vR l3]) (rest := []) (m_X0_entry _ _ _ _ _ _ _ hv114) (Nat.le_of_ble_eq_true rfl) (Nat.le_of_ble_eq_true rfl) rfl (Nat.le_of_ble_eq_true rfl) dL_law_714 (gCont_i ?_)
      refine gw_istore (L' := [(5, vI v114), (0, vR l0), (1, vR l1), (2, vR l2), (3, vR l3), (4, vI l4)]) (Nat.le_of_ble_eq_true rfl) rfl dL_law_717 ?_
      refine gw_aload_n 3 rfl dL_law_719 ?_
      refine gw_aload_n 1 rfl dL_law_720 ?_
      refine gw_iload 5 rfl dL_law_721 ?_
      refine gw_iconst (v := (1 : Int32)) (by decide) dL_law_723 ?_
      refine gw_iadd dL_law_724 ?_
      obtain ⟨v115, hv115, hB⟩ := gB1_some hB
      refine gw_ialdX hX hv115 dL_law_725 ?_
      refine gw_aload_n 1 rfl dL_law_726 ?_
      refine gw_iload 5 rfl dL_law_727 ?_
      refine gw_iconst (v := (2 : Int32)) (by decide) dL_law_729 ?_
      refine gw_iadd dL_law_730 ?_
      obtain ⟨v116, hv116, hB⟩ := gB1_some hB
      refine gw_ialdX hX hv116 dL_law_731 ?_
      obtain ⟨u0, hu119, hB⟩ := gB1_some hB
      obtain ⟨v118, s117, hv118, hB⟩ := gB2_some hB
      refine gw_callV (y := yX6_entry) (lw_V q2958 q2959 q2960 q143 q2961) hdV_X6_entry gcl9 hu119 (As := [vI v115, vI v116]) (rest := []) (m_X6_entry _ _ _ _ _ _ hv118) (Nat.le_of_ble_eq_true rfl) (Nat.le_of_ble_eq_true rfl) rfl (Nat.le_of_ble_eq_true rfl) dL_law_732 (gCont_i ?_)
      refine gw_istore (L' := [(6, vI v118), (5, vI v114), (0, vR l0), (1, vR l1), (2, vR l2), (3, vR l3), (4, vI l4)]) (Nat.le_of_ble_eq_true rfl) rfl dL_law_735 ?_
      refine gw_aload_n 4 rfl dL_law_737 ?_
      obtain ⟨u0, hu122, hB⟩ := gB1_some hB
      obtain ⟨v121, s120, hv121, hB⟩ := gB2_some hB
      refine gw_callV (y := yX6_thrown) (lw_V q2734 q2735 q2736 q143 q2737) hdV_X6_thrown gcl9 hu122 (As := []) (rest := []) (m_X6_thrown _ _ _ _ hv121) (Nat.le_of_ble_eq_true rfl) (Nat.le_of_ble_eq_true rfl) rfl (Nat.le_of_ble_eq_true rfl) dL_law_738 (gCont_i ?_)
      refine gw_iload 1 rfl dL_law_741 ?_
      refine gw_icmp_eq (tgt := 748) dL_law_743 (by decide) (fun hcnd => ?_) (fun hcnd => ?_)
      · rw [if_pos hcnd] at hB
        refine gw_iload 1 rfl dL_law_748 ?_
        refine gw_if_ne (tgt := 765) dL_law_750 (by decide) (fun hcnd => ?_) (fun hcnd => ?_)
        · rw [if_neg hcnd] at hB
          exact gw_sub [2, 3, 4, 5, 6] rfl (w_L_law_765 hX hk23 _ _ _ _ _ _ hB)
        · rw [if_pos hcnd] at hB
          refine gw_aload_n 5 rfl dL_law_753 ?_
          refine gw_iconst (v := (0 : Int32)) (by decide) dL_law_754 ?_
          obtain ⟨v123, hv123, hB⟩ := gB1_some hB
          refine gw_laload hv123 dL_law_755 ?_
          refine gw_iload 0 rfl dL_law_756 ?_
          refine gw_i2l dL_law_758 ?_
          refine gw_lcmp dL_law_759 ?_
          refine gw_if_eq (tgt := 765) dL_law_760 (by decide) (fun hcnd => ?_) (fun hcnd => ?_)
          · rw [if_pos hcnd] at hB
            exact gw_sub [2, 3, 4, 5, 6] rfl (w_L_law_765 hX hk23 _ _ _ _ _ _ hB)
          · rw [if_neg hcnd] at hB
            refine gw_iconst (v := (0 : Int32)) (by decide) dL_law_763 ?_
            obtain ⟨u, hu, hB⟩ := gB1_some hB
            obtain ⟨u2, hu2, hB⟩ := gB1_some hB
            obtain ⟨rfl, rfl⟩ := Prod.mk.inj (Option.some.inj hB)
            exact gl_ret rfl rfl rfl rfl rfl hu hu2 dL_law_764
      · rw [if_neg hcnd] at hB
        refine gw_iconst (v := (0 : Int32)) (by decide) dL_law_746 ?_
        obtain ⟨u, hu, hB⟩ := gB1_some hB
        obtain ⟨u2, hu2, hB⟩ := gB1_some hB
        obtain ⟨rfl, rfl⟩ := Prod.mk.inj (Option.some.inj hB)
        exact gl_ret rfl rfl rfl rfl rfl hu hu2 dL_law_747
    rw [if_neg hs10] at hB
    by_cases hs11 : (v2 &&& (31 : Int32)) = (11 : Int32)
    · rw [if_pos hs11] at hB
      refine gw_tableIn (off := 729) (tgt := 768) (by rw [hs11]; decide) (by rw [hs11]; decide) (by rw [hs11]; rfl) dL_law_39 (by decide) ?_
      refine gw_aload_n 1 rfl dL_law_768 ?_
      refine gw_aload_n 0 rfl dL_law_769 ?_
      refine gw_iload 4 rfl dL_law_770 ?_
      refine gw_iconst (v := (1 : Int32)) (by decide) dL_law_772 ?_
      refine gw_iadd dL_law_773 ?_
      obtain ⟨v124, hv124, hB⟩ := gB1_some hB
      refine gw_ialdX hX hv124 dL_law_774 ?_
      refine gw_aload_n 0 rfl dL_law_775 ?_
      refine gw_iload 4 rfl dL_law_776 ?_
      refine gw_iconst (v := (2 : Int32)) (by decide) dL_law_778 ?_
      refine gw_iadd dL_law_779 ?_
      obtain ⟨v125, hv125, hB⟩ := gB1_some hB
      refine gw_ialdX hX hv125 dL_law_780 ?_
      refine gw_aload_n 3 rfl dL_law_781 ?_
      obtain ⟨v127, s126, hv127, hB⟩ := gB2_some hB
      refine gw_callSW (y := yX0_root) (lw_SW q2590 q2591 q107 q2592) hdS_X0_root (As := [vR l1, vI v124, vI v125, vR l3]) (rest := []) (m_X0_root _ _ _ _ _ _ _ hv127) (Nat.le_of_ble_eq_true rfl) (Nat.le_of_ble_eq_true rfl) rfl (Nat.le_of_ble_eq_true rfl) dL_law_782 (gCont_i ?_)
      refine gw_istore (L' := [(5, vI v127), (0, vR l0), (1, vR l1), (2, vR l2), (3, vR l3), (4, vI l4)]) (Nat.le_of_ble_eq_true rfl) rfl dL_law_785 ?_
      refine gw_aload_n 3 rfl dL_law_787 ?_
      refine gw_aload_n 1 rfl dL_law_788 ?_
      refine gw_iload 5 rfl dL_law_789 ?_
      refine gw_iconst (v := (1 : Int32)) (by decide) dL_law_791 ?_
      refine gw_iadd dL_law_792 ?_
      obtain ⟨v128, hv128, hB⟩ := gB1_some hB
      refine gw_ialdX hX hv128 dL_law_793 ?_
      refine gw_aload_n 1 rfl dL_law_794 ?_
      refine gw_iload 5 rfl dL_law_795 ?_
      refine gw_iconst (v := (2 : Int32)) (by decide) dL_law_797 ?_
      refine gw_iadd dL_law_798 ?_
      obtain ⟨v129, hv129, hB⟩ := gB1_some hB
      refine gw_ialdX hX hv129 dL_law_799 ?_
      obtain ⟨u0, hu132, hB⟩ := gB1_some hB
      obtain ⟨v131, s130, hv131, hB⟩ := gB2_some hB
      refine gw_callV (y := yX6_root) (lw_V q2970 q2971 q2972 q143 q2973) hdV_X6_root gcl9 hu132 (As := [vI v128, vI v129]) (rest := []) (m_X6_root _ _ _ _ _ _ hv131) (Nat.le_of_ble_eq_true rfl) (Nat.le_of_ble_eq_true rfl) rfl (Nat.le_of_ble_eq_true rfl) dL_law_800 (gCont_i ?_)
      refine gw_istore (L' := [(6, vI v131), (5, vI v127), (0, vR l0), (1, vR l1), (2, vR l2), (3, vR l3), (4, vI l4)]) (Nat.le_of_ble_eq_true rfl) rfl dL_law_803 ?_
      refine gw_aload_n 4 rfl dL_law_805 ?_
      obtain ⟨u0, hu135, hB⟩ := gB1_some hB
      obtain ⟨v134, s133, hv134, hB⟩ := gB2_some hB
      refine gw_callV (y := yX6_thrown) (lw_V q2734 q2735 q2736 q143 q2737) hdV_X6_thrown gcl9 hu135 (As := []) (rest := []) (m_X6_thrown _ _ _ _ hv134) (Nat.le_of_ble_eq_true rfl) (Nat.le_of_ble_eq_true rfl) rfl (Nat.le_of_ble_eq_true rfl) dL_law_806 (gCont_i ?_)
      refine gw_iload 1 rfl dL_law_809 ?_
      refine gw_icmp_eq (tgt := 816) dL_law_811 (by decide) (fun hcnd => ?_) (fun hcnd => ?_)
      · rw [if_pos hcnd] at hB
        refine gw_iload 1 rfl dL_law_816 ?_
        refine gw_if_ne (tgt := 833) dL_law_818 (by decide) (fun hcnd => ?_) (fun hcnd => ?_)
        · rw [if_neg hcnd] at hB
          exact gw_sub [2, 3, 4, 5, 6] rfl (w_L_law_833 hX hk23 _ _ _ _ _ _ hB)
        · rw [if_pos hcnd] at hB
          refine gw_aload_n 5 rfl dL_law_821 ?_
          refine gw_iconst (v := (0 : Int32)) (by decide) dL_law_822 ?_
          obtain ⟨v136, hv136, hB⟩ := gB1_some hB
          refine gw_laload hv136 dL_law_823 ?_
          refine gw_iload 0 rfl dL_law_824 ?_
          refine gw_i2l dL_law_826 ?_
          refine gw_lcmp dL_law_827 ?_
          refine gw_if_eq (tgt := 833) dL_law_828 (by decide) (fun hcnd => ?_) (fun hcnd => ?_)
          · rw [if_pos hcnd] at hB
            exact gw_sub [2, 3, 4, 5, 6] rfl (w_L_law_833 hX hk23 _ _ _ _ _ _ hB)
          · rw [if_neg hcnd] at hB
            refine gw_iconst (v := (0 : Int32)) (by decide) dL_law_831 ?_
            obtain ⟨u, hu, hB⟩ := gB1_some hB
            obtain ⟨u2, hu2, hB⟩ := gB1_some hB
            obtain ⟨rfl, rfl⟩ := Prod.mk.inj (Option.some.inj hB)
            exact gl_ret rfl rfl rfl rfl rfl hu hu2 dL_law_832
      · rw [if_neg hcnd] at hB
        refine gw_iconst (v := (0 : Int32)) (by decide) dL_law_814 ?_
        obtain ⟨u, hu, hB⟩ := gB1_some hB
        obtain ⟨u2, hu2, hB⟩ := gB1_some hB
        obtain ⟨rfl, rfl⟩ := Prod.mk.inj (Option.some.inj hB)
        exact gl_ret rfl rfl rfl rfl rfl hu hu2 dL_law_815
    rw [if_neg hs11] at hB
    by_cases hs12 : (v2 &&& (31 : Int32)) = (12 : Int32)
    · rw [if_pos hs12] at hB
      refine gw_tableIn (off := 797) (tgt := 836) (by rw [hs12]; decide) (by rw [hs12]; decide) (by rw [hs12]; rfl) dL_law_39 (by decide) ?_
      refine gw_aload_n 1 rfl dL_law_836 ?_
      refine gw_aload_n 0 rfl dL_law_837 ?_
      refine gw_iload 4 rfl dL_law_838 ?_
      refine gw_iconst (v := (1 : Int32)) (by decide) dL_law_840 ?_
      refine gw_iadd dL_law_841 ?_
      obtain ⟨v137, hv137, hB⟩ := gB1_some hB
      refine gw_ialdX hX hv137 dL_law_842 ?_
      refine gw_aload_n 0 rfl dL_law_843 ?_
      refine gw_iload 4 rfl dL_law_844 ?_
      refine gw_iconst (v := (2 : Int32)) (by decide) dL_law_846 ?_
      refine gw_iadd dL_law_847 ?_
      obtain ⟨v138, hv138, hB⟩ := gB1_some hB
      refine gw_ialdX hX hv138 dL_law_848 ?_
      refine gw_aload_n 3 rfl dL_law_849 ?_
      obtain ⟨v140, s139, hv140, hB⟩ := gB2_some hB
      refine gw_callSW (y := yX0_reader) (lw_SW q2598 q2599 q107 q2600) hdS_X0_reader (As := [vR l1, vI v137, vI v138, vR l3]) (rest := []) (m_X0_reader _ _ _ _ _ _ _ hv140) (Nat.le_of_ble_eq_true rfl) (Nat.le_of_ble_eq_true rfl) rfl (Nat.le_of_ble_eq_true rfl) dL_law_850 (gCont_i ?_)
      refine gw_istore (L' := [(5, vI v140), (0, vR l0), (1, vR l1), (2, vR l2), (3, vR l3), (4, vI l4)]) (Nat.le_of_ble_eq_true rfl) rfl dL_law_853 ?_
      refine gw_aload_n 3 rfl dL_law_855 ?_
      refine gw_aload_n 1 rfl dL_law_856 ?_
      refine gw_iload 5 rfl dL_law_857 ?_
      refine gw_iconst (v := (1 : Int32)) (by decide) dL_law_859 ?_
      refine gw_iadd dL_law_860 ?_
      obtain ⟨v141, hv141, hB⟩ := gB1_some hB
      refine gw_ialdX hX hv141 dL_law_861 ?_
      refine gw_aload_n 1 rfl dL_law_862 ?_
      refine gw_iload 5 rfl dL_law_863 ?_
      refine gw_iconst (v := (2 : Int32)) (by decide) dL_law_865 ?_
      refine gw_iadd dL_law_866 ?_
      obtain ⟨v142, hv142, hB⟩ := gB1_some hB
      refine gw_ialdX hX hv142 dL_law_867 ?_
      obtain ⟨u0, hu145, hB⟩ := gB1_some hB
      obtain ⟨v144, s143, hv144, hB⟩ := gB2_some hB
      refine gw_callV (y := yX6_reader) (lw_V q2978 q2979 q2980 q143 q2981) hdV_X6_reader gcl9 hu145 (As := [vI v141, vI v142]) (rest := []) (m_X6_reader _ _ _ _ _ _ hv144) (Nat.le_of_ble_eq_true rfl) (Nat.le_of_ble_eq_true rfl) rfl (Nat.le_of_ble_eq_true rfl) dL_law_868 (gCont_i ?_)
      refine gw_istore (L' := [(6, vI v144), (5, vI v140), (0, vR l0), (1, vR l1), (2, vR l2), (3, vR l3), (4, vI l4)]) (Nat.le_of_ble_eq_true rfl) rfl dL_law_871 ?_
      refine gw_aload_n 4 rfl dL_law_873 ?_
      obtain ⟨u0, hu148, hB⟩ := gB1_some hB
      obtain ⟨v147, s146, hv147, hB⟩ := gB2_some hB
      refine gw_callV (y := yX6_thrown) (lw_V q2734 q2735 q2736 q143 q2737) hdV_X6_thrown gcl9 hu148 (As := []) (rest := []) (m_X6_thrown _ _ _ _ hv147) (Nat.le_of_ble_eq_true rfl) (Nat.le_of_ble_eq_true rfl) rfl (Nat.le_of_ble_eq_true rfl) dL_law_874 (gCont_i ?_)
      refine gw_iload 1 rfl dL_law_877 ?_
      refine gw_icmp_eq (tgt := 884) dL_law_879 (by decide) (fun hcnd => ?_) (fun hcnd => ?_)
      · rw [if_pos hcnd] at hB
        refine gw_iload 1 rfl dL_law_884 ?_
        refine gw_if_ne (tgt := 901) dL_law_886 (by decide) (fun hcnd => ?_) (fun hcnd => ?_)
        · rw [if_neg hcnd] at hB
          exact gw_sub [2, 3, 4, 5, 6] rfl (w_L_law_901 hX hk23 _ _ _ _ _ _ hB)
        · rw [if_pos hcnd] at hB
          refine gw_aload_n 5 rfl dL_law_889 ?_
          refine gw_iconst (v := (0 : Int32)) (by decide) dL_law_890 ?_
          obtain ⟨v149, hv149, hB⟩ := gB1_some hB
          refine gw_laload hv149 dL_law_891 ?_
          refine gw_iload 0 rfl dL_law_892 ?_
          refine gw_i2l dL_law_894 ?_
          refine gw_lcmp dL_law_895 ?_
          refine gw_if_eq (tgt := 901) dL_law_896 (by decide) (fun hcnd => ?_) (fun hcnd => ?_)
          · rw [if_pos hcnd] at hB
            exact gw_sub [2, 3, 4, 5, 6] rfl (w_L_law_901 hX hk23 _ _ _ _ _ _ hB)
          · rw [if_neg hcnd] at hB
            refine gw_iconst (v := (0 : Int32)) (by decide) dL_law_899 ?_
            obtain ⟨u, hu, hB⟩ := gB1_some hB
            obtain ⟨u2, hu2, hB⟩ := gB1_some hB
            obtain ⟨rfl, rfl⟩ := Prod.mk.inj (Option.some.inj hB)
            exact gl_ret rfl rfl rfl rfl rfl hu hu2 dL_law_900
      · rw [if_neg hcnd] at hB
        refine gw_iconst (v := (0 : Int32)) (by decide) dL_law_882 ?_
        obtain ⟨u, hu, hB⟩ := gB1_some hB
        obtain ⟨u2, hu2, hB⟩ := gB1_some hB
        obtain ⟨rfl, rfl⟩ := Prod.mk.inj (Option.some.inj hB)
        exact gl_ret rfl rfl rfl rfl rfl hu hu2 dL_law_883
    rw [if_neg hs12] at hB
    by_cases hs13 : (v2 &&& (31 : Int32)) = (13 : Int32)
    · rw [if_pos hs13] at hB
      refine gw_tableIn (off := 865) (tgt := 904) (by rw [hs13]; decide) (by rw [hs13]; decide) (by rw [hs13]; rfl) dL_law_39 (by decide) ?_
      refine gw_aload_n 1 rfl dL_law_904 ?_
      refine gw_aload_n 0 rfl dL_law_905 ?_
      refine gw_iload 4 rfl dL_law_906 ?_
      refine gw_iconst (v := (1 : Int32)) (by decide) dL_law_908 ?_
      refine gw_iadd dL_law_909 ?_
      obtain ⟨v150, hv150, hB⟩ := gB1_some hB
      refine gw_ialdX hX hv150 dL_law_910 ?_
      refine gw_aload_n 0 rfl dL_law_911 ?_
      refine gw_iload 4 rfl dL_law_912 ?_
      refine gw_iconst (v := (2 : Int32)) (by decide) dL_law_914 ?_
      refine gw_iadd dL_law_915 ?_
      obtain ⟨v151, hv151, hB⟩ := gB1_some hB
      refine gw_ialdX hX hv151 dL_law_916 ?_
      refine gw_aload_n 3 rfl dL_law_917 ?_
      obtain ⟨v153, s152, hv153, hB⟩ := gB2_some hB
      refine gw_callSW (y := yX0_bed) (lw_SW q2605 q2606 q107 q2607) hdS_X0_bed (As := [vR l1, vI v150, vI v151, vR l3]) (rest := []) (m_X0_bed _ _ _ _ _ _ _ hv153) (Nat.le_of_ble_eq_true rfl) (Nat.le_of_ble_eq_true rfl) rfl (Nat.le_of_ble_eq_true rfl) dL_law_918 (gCont_i ?_)
      refine gw_istore (L' := [(5, vI v153), (0, vR l0), (1, vR l1), (2, vR l2), (3, vR l3), (4, vI l4)]) (Nat.le_of_ble_eq_true rfl) rfl dL_law_921 ?_
      refine gw_aload_n 3 rfl dL_law_923 ?_
      refine gw_aload_n 1 rfl dL_law_924 ?_
      refine gw_iload 5 rfl dL_law_925 ?_
      refine gw_iconst (v := (1 : Int32)) (by decide) dL_law_927 ?_
      refine gw_iadd dL_law_928 ?_
      obtain ⟨v154, hv154, hB⟩ := gB1_some hB
      refine gw_ialdX hX hv154 dL_law_929 ?_
      refine gw_aload_n 1 rfl dL_law_930 ?_
      refine gw_iload 5 rfl dL_law_931 ?_
      refine gw_iconst (v := (2 : Int32)) (by decide) dL_law_933 ?_
      refine gw_iadd dL_law_934 ?_
      obtain ⟨v155, hv155, hB⟩ := gB1_some hB
      refine gw_ialdX hX hv155 dL_law_935 ?_
      obtain ⟨u0, hu158, hB⟩ := gB1_some hB
      obtain ⟨v157, s156, hv157, hB⟩ := gB2_some hB
      refine gw_callV (y := yX6_bed) (lw_V q2986 q2987 q2988 q143 q2989) hdV_X6_bed gcl9 hu158 (As := [vI v154, vI v155]) (rest := []) (m_X6_bed _ _ _ _ _ _ hv157) (Nat.le_of_ble_eq_true rfl) (Nat.le_of_ble_eq_true rfl) rfl (Nat.le_of_ble_eq_true rfl) dL_law_936 (gCont_i ?_)
      refine gw_istore (L' := [(6, vI v157), (5, vI v153), (0, vR l0), (1, vR l1), (2, vR l2), (3, vR l3), (4, vI l4)]) (Nat.le_of_ble_eq_true rfl) rfl dL_law_939 ?_
      refine gw_aload_n 4 rfl dL_law_941 ?_
      obtain ⟨u0, hu161, hB⟩ := gB1_some hB
      obtain ⟨v160, s159, hv160, hB⟩ := gB2_some hB
      refine gw_callV (y := yX6_thrown) (lw_V q2734 q2735 q2736 q143 q2737) hdV_X6_thrown gcl9 hu161 (As := []) (rest := []) (m_X6_thrown _ _ _ _ hv160) (Nat.le_of_ble_eq_true rfl) (Nat.le_of_ble_eq_true rfl) rfl (Nat.le_of_ble_eq_true rfl) dL_law_942 (gCont_i ?_)
      refine gw_iload 1 rfl dL_law_945 ?_
      refine gw_icmp_eq (tgt := 952) dL_law_947 (by decide) (fun hcnd => ?_) (fun hcnd => ?_)
      · rw [if_pos hcnd] at hB
        refine gw_iload 1 rfl dL_law_952 ?_
        refine gw_if_ne (tgt := 969) dL_law_954 (by decide) (fun hcnd => ?_) (fun hcnd => ?_)
        · rw [if_neg hcnd] at hB
          exact gw_sub [2, 3, 4, 5, 6] rfl (w_L_law_969 hX hk23 _ _ _ _ _ _ hB)
        · rw [if_pos hcnd] at hB
          refine gw_aload_n 5 rfl dL_law_957 ?_
          refine gw_iconst (v := (0 : Int32)) (by decide) dL_law_958 ?_
          obtain ⟨v162, hv162, hB⟩ := gB1_some hB
          refine gw_laload hv162 dL_law_959 ?_
          refine gw_iload 0 rfl dL_law_960 ?_
          refine gw_i2l dL_law_962 ?_
          refine gw_lcmp dL_law_963 ?_
          refine gw_if_eq (tgt := 969) dL_law_964 (by decide) (fun hcnd => ?_) (fun hcnd => ?_)
          · rw [if_pos hcnd] at hB
            exact gw_sub [2, 3, 4, 5, 6] rfl (w_L_law_969 hX hk23 _ _ _ _ _ _ hB)
          · rw [if_neg hcnd] at hB
            refine gw_iconst (v := (0 : Int32)) (by decide) dL_law_967 ?_
            obtain ⟨u, hu, hB⟩ := gB1_some hB
            obtain ⟨u2, hu2, hB⟩ := gB1_some hB
            obtain ⟨rfl, rfl⟩ := Prod.mk.inj (Option.some.inj hB)
            exact gl_ret rfl rfl rfl rfl rfl hu hu2 dL_law_968
      · rw [if_neg hcnd] at hB
        refine gw_iconst (v := (0 : Int32)) (by decide) dL_law_950 ?_
        obtain ⟨u, hu, hB⟩ := gB1_some hB
        obtain ⟨u2, hu2, hB⟩ := gB1_some hB
        obtain ⟨rfl, rfl⟩ := Prod.mk.inj (Option.some.inj hB)
        exact gl_ret rfl rfl rfl rfl rfl hu hu2 dL_law_951
    rw [if_neg hs13] at hB
    by_cases hs14 : (v2 &&& (31 : Int32)) = (14 : Int32)
    · rw [if_pos hs14] at hB
      refine gw_tableIn (off := 933) (tgt := 972) (by rw [hs14]; decide) (by rw [hs14]; decide) (by rw [hs14]; rfl) dL_law_39 (by decide) ?_
      refine gw_aload_n 1 rfl dL_law_972 ?_
      refine gw_aload_n 0 rfl dL_law_973 ?_
      refine gw_iload 4 rfl dL_law_974 ?_
      refine gw_iconst (v := (1 : Int32)) (by decide) dL_law_976 ?_
      refine gw_iadd dL_law_977 ?_
      obtain ⟨v163, hv163, hB⟩ := gB1_some hB
      refine gw_ialdX hX hv163 dL_law_978 ?_
      refine gw_aload_n 3 rfl dL_law_979 ?_
      obtain ⟨v165, s164, hv165, hB⟩ := gB2_some hB
      refine gw_callSW (y := yX0_whole) (lw_SW q2613 q2614 q107 q2615) hdS_X0_whole (As := [vR l1, vI v163, vR l3]) (rest := []) (m_X0_whole _ _ _ _ _ _ hv165) (Nat.le_of_ble_eq_true rfl) (Nat.le_of_ble_eq_true rfl) rfl (Nat.le_of_ble_eq_true rfl) dL_law_980 (gCont_i ?_)
      refine gw_istore (L' := [(5, vI v165), (0, vR l0), (1, vR l1), (2, vR l2), (3, vR l3), (4, vI l4)]) (Nat.le_of_ble_eq_true rfl) rfl dL_law_983 ?_
      refine gw_aload_n 3 rfl dL_law_985 ?_
      refine gw_aload_n 1 rfl dL_law_986 ?_
      refine gw_iload 5 rfl dL_law_987 ?_
      refine gw_iconst (v := (1 : Int32)) (by decide) dL_law_989 ?_
      refine gw_iadd dL_law_990 ?_
      obtain ⟨v166, hv166, hB⟩ := gB1_some hB
      refine gw_ialdX hX hv166 dL_law_991 ?_
      obtain ⟨u0, hu169, hB⟩ := gB1_some hB
      obtain ⟨v168, s167, hv168, hB⟩ := gB2_some hB
      refine gw_callV (y := yX6_whole) (lw_V q2994 q2995 q2996 q143 q2997) hdV_X6_whole gcl9 hu169 (As := [vI v166]) (rest := []) (m_X6_whole _ _ _ _ _ hv168) (Nat.le_of_ble_eq_true rfl) (Nat.le_of_ble_eq_true rfl) rfl (Nat.le_of_ble_eq_true rfl) dL_law_992 (gCont_i ?_)
      refine gw_istore (L' := [(6, vI v168), (5, vI v165), (0, vR l0), (1, vR l1), (2, vR l2), (3, vR l3), (4, vI l4)]) (Nat.le_of_ble_eq_true rfl) rfl dL_law_995 ?_
      refine gw_aload_n 4 rfl dL_law_997 ?_
      obtain ⟨u0, hu172, hB⟩ := gB1_some hB
      obtain ⟨v171, s170, hv171, hB⟩ := gB2_some hB
      refine gw_callV (y := yX6_thrown) (lw_V q2734 q2735 q2736 q143 q2737) hdV_X6_thrown gcl9 hu172 (As := []) (rest := []) (m_X6_thrown _ _ _ _ hv171) (Nat.le_of_ble_eq_true rfl) (Nat.le_of_ble_eq_true rfl) rfl (Nat.le_of_ble_eq_true rfl) dL_law_998 (gCont_i ?_)
      refine gw_iload 1 rfl dL_law_1001 ?_
      refine gw_icmp_eq (tgt := 1008) dL_law_1003 (by decide) (fun hcnd => ?_) (fun hcnd => ?_)
      · rw [if_pos hcnd] at hB
        refine gw_iload 1 rfl dL_law_1008 ?_
        refine gw_if_ne (tgt := 1025) dL_law_1010 (by decide) (fun hcnd => ?_) (fun hcnd => ?_)
        · rw [if_neg hcnd] at hB
          exact gw_sub [2, 3, 4, 5, 6] rfl (w_L_law_1025 hX hk23 _ _ _ _ _ _ hB)
        · rw [if_pos hcnd] at hB
          refine gw_aload_n 5 rfl dL_law_1013 ?_
          refine gw_iconst (v := (0 : Int32)) (by decide) dL_law_1014 ?_
          obtain ⟨v173, hv173, hB⟩ := gB1_some hB
          refine gw_laload hv173 dL_law_1015 ?_
          refine gw_iload 0 rfl dL_law_1016 ?_
          refine gw_i2l dL_law_1018 ?_
          refine gw_lcmp dL_law_1019 ?_
          refine gw_if_eq (tgt := 1025) dL_law_1020 (by decide) (fun hcnd => ?_) (fun hcnd => ?_)
          · rw [if_pos hcnd] at hB
            exact gw_sub [2, 3, 4, 5, 6] rfl (w_L_law_1025 hX hk23 _ _ _ _ _ _ hB)
          · rw [if_neg hcnd] at hB
            refine gw_iconst (v := (0 : Int32)) (by decide) dL_law_1023 ?_
            obtain ⟨u, hu, hB⟩ := gB1_some hB
            obtain ⟨u2, hu2, hB⟩ := gB1_some hB
            obtain ⟨rfl, rfl⟩ := Prod.mk.inj (Option.some.inj hB)
            exact gl_ret rfl rfl rfl rfl rfl hu hu2 dL_law_1024
      · rw [if_neg hcnd] at hB
        refine gw_iconst (v := (0 : Int32)) (by decide) dL_law_1006 ?_
        obtain ⟨u, hu, hB⟩ := gB1_some hB
        obtain ⟨u2, hu2, hB⟩ := gB1_some hB
        obtain ⟨rfl, rfl⟩ := Prod.mk.inj (Option.some.inj hB)
        exact gl_ret rfl rfl rfl rfl rfl hu hu2 dL_law_1007
    rw [if_neg hs14] at hB
    by_cases hs15 : (v2 &&& (31 : Int32)) = (15 : Int32)
    · rw [if_pos hs15] at hB
      refine gw_tableIn (off := 989) (tgt := 1028) (by rw [hs15]; decide) (by rw [hs15]; decide) (by rw [hs15]; rfl) dL_law_39 (by decide) ?_
      refine gw_aload_n 1 rfl dL_law_1028 ?_
      obtain ⟨u0, hu176, hB⟩ := gB1_some hB
      obtain ⟨v175, s174, hv175, hB⟩ := gB2_some hB
      refine gw_callV (y := yX1_nextBed) (lw_V q1286 q1287 q1288 q108 q1289) hdV_X1_nextBed gcl0 hu176 (As := []) (rest := []) (m_X1_nextBed _ _ _ _ hv175) (Nat.le_of_ble_eq_true rfl) (Nat.le_of_ble_eq_true rfl) rfl (Nat.le_of_ble_eq_true rfl) dL_law_1029 (gCont_i ?_)
      refine gw_aload_n 2 rfl dL_law_1032 ?_
      obtain ⟨u0, hu179, hB⟩ := gB1_some hB
      obtain ⟨v178, s177, hv178, hB⟩ := gB2_some hB
      refine gw_callV (y := yX6_nextBed) (lw_V q3014 q3015 q3016 q143 q3017) hdV_X6_nextBed gcl9 hu179 (As := []) (rest := [vI v175]) (m_X6_nextBed _ _ _ _ hv178) (Nat.le_of_ble_eq_true rfl) (Nat.le_of_ble_eq_true rfl) rfl (Nat.le_of_ble_eq_true rfl) dL_law_1033 (gCont_i ?_)
      refine gw_icmp_eq (tgt := 1405) dL_law_1036 (by decide) (fun hcnd => ?_) (fun hcnd => ?_)
      · rw [if_pos hcnd] at hB
        exact gw_sub [0, 1, 2, 3, 4] rfl (w_L_law_1405 hX hk23 _ _ _ _ _ _ hB)
      · rw [if_neg hcnd] at hB
        refine gw_iconst (v := (0 : Int32)) (by decide) dL_law_1039 ?_
        obtain ⟨u, hu, hB⟩ := gB1_some hB
        obtain ⟨u2, hu2, hB⟩ := gB1_some hB
        obtain ⟨rfl, rfl⟩ := Prod.mk.inj (Option.some.inj hB)
        exact gl_ret rfl rfl rfl rfl rfl hu hu2 dL_law_1040
    rw [if_neg hs15] at hB
    by_cases hs16 : (v2 &&& (31 : Int32)) = (16 : Int32)
    · rw [if_pos hs16] at hB
      refine gw_tableIn (off := 1002) (tgt := 1041) (by rw [hs16]; decide) (by rw [hs16]; decide) (by rw [hs16]; rfl) dL_law_39 (by decide) ?_
      refine gw_aload_n 1 rfl dL_law_1041 ?_
      refine gw_aload_n 0 rfl dL_law_1042 ?_
      refine gw_iload 4 rfl dL_law_1043 ?_
      refine gw_iconst (v := (1 : Int32)) (by decide) dL_law_1045 ?_
      refine gw_iadd dL_law_1046 ?_
      obtain ⟨v180, hv180, hB⟩ := gB1_some hB
      refine gw_ialdX hX hv180 dL_law_1047 ?_
      refine gw_aload_n 3 rfl dL_law_1048 ?_
      obtain ⟨v182, s181, hv182, hB⟩ := gB2_some hB
      refine gw_callSW (y := yX0_bedsFor) (lw_SW q2620 q2621 q107 q2622) hdS_X0_bedsFor (As := [vR l1, vI v180, vR l3]) (rest := []) (m_X0_bedsFor _ _ _ _ _ _ hv182) (Nat.le_of_ble_eq_true rfl) (Nat.le_of_ble_eq_true rfl) rfl (Nat.le_of_ble_eq_true rfl) dL_law_1049 (gCont_i ?_)
      refine gw_istore (L' := [(5, vI v182), (0, vR l0), (1, vR l1), (2, vR l2), (3, vR l3), (4, vI l4)]) (Nat.le_of_ble_eq_true rfl) rfl dL_law_1052 ?_
      refine gw_aload_n 3 rfl dL_law_1054 ?_
      refine gw_aload_n 1 rfl dL_law_1055 ?_
      refine gw_iload 5 rfl dL_law_1056 ?_
      refine gw_iconst (v := (1 : Int32)) (by decide) dL_law_1058 ?_
      refine gw_iadd dL_law_1059 ?_
      obtain ⟨v183, hv183, hB⟩ := gB1_some hB
      refine gw_ialdX hX hv183 dL_law_1060 ?_
      obtain ⟨u0, hu186, hB⟩ := gB1_some hB
      obtain ⟨v185, s184, hv185, hB⟩ := gB2_some hB
      refine gw_callV (y := yX6_bedsFor) (lw_V q3022 q3023 q3024 q143 q3025) hdV_X6_bedsFor gcl9 hu186 (As := [vI v183]) (rest := []) (m_X6_bedsFor _ _ _ _ _ hv185) (Nat.le_of_ble_eq_true rfl) (Nat.le_of_ble_eq_true rfl) rfl (Nat.le_of_ble_eq_true rfl) dL_law_1061 (gCont_i ?_)
      refine gw_istore (L' := [(6, vI v185), (5, vI v182), (0, vR l0), (1, vR l1), (2, vR l2), (3, vR l3), (4, vI l4)]) (Nat.le_of_ble_eq_true rfl) rfl dL_law_1064 ?_
      refine gw_aload_n 4 rfl dL_law_1066 ?_
      obtain ⟨u0, hu189, hB⟩ := gB1_some hB
      obtain ⟨v188, s187, hv188, hB⟩ := gB2_some hB
      refine gw_callV (y := yX6_thrown) (lw_V q2734 q2735 q2736 q143 q2737) hdV_X6_thrown gcl9 hu189 (As := []) (rest := []) (m_X6_thrown _ _ _ _ hv188) (Nat.le_of_ble_eq_true rfl) (Nat.le_of_ble_eq_true rfl) rfl (Nat.le_of_ble_eq_true rfl) dL_law_1067 (gCont_i ?_)
      refine gw_iload 1 rfl dL_law_1070 ?_
      refine gw_icmp_eq (tgt := 1077) dL_law_1072 (by decide) (fun hcnd => ?_) (fun hcnd => ?_)
      · rw [if_pos hcnd] at hB
        refine gw_iload 1 rfl dL_law_1077 ?_
        refine gw_if_ne (tgt := 1094) dL_law_1079 (by decide) (fun hcnd => ?_) (fun hcnd => ?_)
        · rw [if_neg hcnd] at hB
          exact gw_sub [2, 3, 4, 5, 6] rfl (w_L_law_1094 hX hk23 _ _ _ _ _ _ hB)
        · rw [if_pos hcnd] at hB
          refine gw_aload_n 5 rfl dL_law_1082 ?_
          refine gw_iconst (v := (0 : Int32)) (by decide) dL_law_1083 ?_
          obtain ⟨v190, hv190, hB⟩ := gB1_some hB
          refine gw_laload hv190 dL_law_1084 ?_
          refine gw_iload 0 rfl dL_law_1085 ?_
          refine gw_i2l dL_law_1087 ?_
          refine gw_lcmp dL_law_1088 ?_
          refine gw_if_eq (tgt := 1094) dL_law_1089 (by decide) (fun hcnd => ?_) (fun hcnd => ?_)
          · rw [if_pos hcnd] at hB
            exact gw_sub [2, 3, 4, 5, 6] rfl (w_L_law_1094 hX hk23 _ _ _ _ _ _ hB)
          · rw [if_neg hcnd] at hB
            refine gw_iconst (v := (0 : Int32)) (by decide) dL_law_1092 ?_
            obtain ⟨u, hu, hB⟩ := gB1_some hB
            obtain ⟨u2, hu2, hB⟩ := gB1_some hB
            obtain ⟨rfl, rfl⟩ := Prod.mk.inj (Option.some.inj hB)
            exact gl_ret rfl rfl rfl rfl rfl hu hu2 dL_law_1093
      · rw [if_neg hcnd] at hB
        refine gw_iconst (v := (0 : Int32)) (by decide) dL_law_1075 ?_
        obtain ⟨u, hu, hB⟩ := gB1_some hB
        obtain ⟨u2, hu2, hB⟩ := gB1_some hB
        obtain ⟨rfl, rfl⟩ := Prod.mk.inj (Option.some.inj hB)
        exact gl_ret rfl rfl rfl rfl rfl hu hu2 dL_law_1076
    rw [if_neg hs16] at hB
    by_cases hs17 : (v2 &&& (31 : Int32)) = (17 : Int32)
    · rw [if_pos hs17] at hB
      refine gw_tableIn (off := 1058) (tgt := 1097) (by rw [hs17]; decide) (by rw [hs17]; decide) (by rw [hs17]; rfl) dL_law_39 (by decide) ?_
      refine gw_aload_n 1 rfl dL_law_1097 ?_
      refine gw_aload_n 0 rfl dL_law_1098 ?_
      refine gw_iload 4 rfl dL_law_1099 ?_
      refine gw_iconst (v := (1 : Int32)) (by decide) dL_law_1101 ?_
      refine gw_iadd dL_law_1102 ?_
      obtain ⟨v191, hv191, hB⟩ := gB1_some hB
      refine gw_ialdX hX hv191 dL_law_1103 ?_
      refine gw_aload_n 3 rfl dL_law_1104 ?_
      obtain ⟨v193, s192, hv193, hB⟩ := gB2_some hB
      refine gw_callSW (y := yX0_reason) (lw_SW q2628 q2629 q107 q2630) hdS_X0_reason (As := [vR l1, vI v191, vR l3]) (rest := []) (m_X0_reason _ _ _ _ _ _ hv193) (Nat.le_of_ble_eq_true rfl) (Nat.le_of_ble_eq_true rfl) rfl (Nat.le_of_ble_eq_true rfl) dL_law_1105 (gCont_i ?_)
      refine gw_istore (L' := [(5, vI v193), (0, vR l0), (1, vR l1), (2, vR l2), (3, vR l3), (4, vI l4)]) (Nat.le_of_ble_eq_true rfl) rfl dL_law_1108 ?_
      refine gw_aload_n 3 rfl dL_law_1110 ?_
      refine gw_aload_n 1 rfl dL_law_1111 ?_
      refine gw_iload 5 rfl dL_law_1112 ?_
      refine gw_iconst (v := (1 : Int32)) (by decide) dL_law_1114 ?_
      refine gw_iadd dL_law_1115 ?_
      obtain ⟨v194, hv194, hB⟩ := gB1_some hB
      refine gw_ialdX hX hv194 dL_law_1116 ?_
      obtain ⟨u0, hu197, hB⟩ := gB1_some hB
      obtain ⟨v196, s195, hv196, hB⟩ := gB2_some hB
      refine gw_callV (y := yX6_reason) (lw_V q3026 q3027 q3028 q143 q3029) hdV_X6_reason gcl9 hu197 (As := [vI v194]) (rest := []) (m_X6_reason _ _ _ _ _ hv196) (Nat.le_of_ble_eq_true rfl) (Nat.le_of_ble_eq_true rfl) rfl (Nat.le_of_ble_eq_true rfl) dL_law_1117 (gCont_i ?_)
      refine gw_istore (L' := [(6, vI v196), (5, vI v193), (0, vR l0), (1, vR l1), (2, vR l2), (3, vR l3), (4, vI l4)]) (Nat.le_of_ble_eq_true rfl) rfl dL_law_1120 ?_
      refine gw_aload_n 4 rfl dL_law_1122 ?_
      obtain ⟨u0, hu200, hB⟩ := gB1_some hB
      obtain ⟨v199, s198, hv199, hB⟩ := gB2_some hB
      refine gw_callV (y := yX6_thrown) (lw_V q2734 q2735 q2736 q143 q2737) hdV_X6_thrown gcl9 hu200 (As := []) (rest := []) (m_X6_thrown _ _ _ _ hv199) (Nat.le_of_ble_eq_true rfl) (Nat.le_of_ble_eq_true rfl) rfl (Nat.le_of_ble_eq_true rfl) dL_law_1123 (gCont_i ?_)
      refine gw_iload 1 rfl dL_law_1126 ?_
      refine gw_icmp_eq (tgt := 1133) dL_law_1128 (by decide) (fun hcnd => ?_) (fun hcnd => ?_)
      · rw [if_pos hcnd] at hB
        refine gw_iload 1 rfl dL_law_1133 ?_
        refine gw_if_ne (tgt := 1150) dL_law_1135 (by decide) (fun hcnd => ?_) (fun hcnd => ?_)
        · rw [if_neg hcnd] at hB
          exact gw_sub [2, 3, 4, 5, 6] rfl (w_L_law_1150 hX hk23 _ _ _ _ _ _ hB)
        · rw [if_pos hcnd] at hB
          refine gw_aload_n 5 rfl dL_law_1138 ?_
          refine gw_iconst (v := (0 : Int32)) (by decide) dL_law_1139 ?_
          obtain ⟨v201, hv201, hB⟩ := gB1_some hB
          refine gw_laload hv201 dL_law_1140 ?_
          refine gw_iload 0 rfl dL_law_1141 ?_
          refine gw_i2l dL_law_1143 ?_
          refine gw_lcmp dL_law_1144 ?_
          refine gw_if_eq (tgt := 1150) dL_law_1145 (by decide) (fun hcnd => ?_) (fun hcnd => ?_)
          · rw [if_pos hcnd] at hB
            exact gw_sub [2, 3, 4, 5, 6] rfl (w_L_law_1150 hX hk23 _ _ _ _ _ _ hB)
          · rw [if_neg hcnd] at hB
            refine gw_iconst (v := (0 : Int32)) (by decide) dL_law_1148 ?_
            obtain ⟨u, hu, hB⟩ := gB1_some hB
            obtain ⟨u2, hu2, hB⟩ := gB1_some hB
            obtain ⟨rfl, rfl⟩ := Prod.mk.inj (Option.some.inj hB)
            exact gl_ret rfl rfl rfl rfl rfl hu hu2 dL_law_1149
      · rw [if_neg hcnd] at hB
        refine gw_iconst (v := (0 : Int32)) (by decide) dL_law_1131 ?_
        obtain ⟨u, hu, hB⟩ := gB1_some hB
        obtain ⟨u2, hu2, hB⟩ := gB1_some hB
        obtain ⟨rfl, rfl⟩ := Prod.mk.inj (Option.some.inj hB)
        exact gl_ret rfl rfl rfl rfl rfl hu hu2 dL_law_1132
    rw [if_neg hs17] at hB
    by_cases hs18 : (v2 &&& (31 : Int32)) = (18 : Int32)
    · rw [if_pos hs18] at hB
      refine gw_tableIn (off := 1114) (tgt := 1153) (by rw [hs18]; decide) (by rw [hs18]; decide) (by rw [hs18]; rfl) dL_law_39 (by decide) ?_
      refine gw_aload_n 1 rfl dL_law_1153 ?_
      refine gw_aload_n 0 rfl dL_law_1154 ?_
      refine gw_iload 4 rfl dL_law_1155 ?_
      refine gw_iconst (v := (1 : Int32)) (by decide) dL_law_1157 ?_
      refine gw_iadd dL_law_1158 ?_
      obtain ⟨v202, hv202, hB⟩ := gB1_some hB
      refine gw_ialdX hX hv202 dL_law_1159 ?_
      refine gw_aload_n 3 rfl dL_law_1160 ?_
      obtain ⟨v204, s203, hv204, hB⟩ := gB2_some hB
      refine gw_callSW (y := yX0_neededWithout) (lw_SW q2636 q2637 q107 q2638) hdS_X0_neededWithout (As := [vR l1, vI v202, vR l3]) (rest := []) (m_X0_neededWithout _ _ _ _ _ _ hv204) (Nat.le_of_ble_eq_true rfl) (Nat.le_of_ble_eq_true rfl) rfl (Nat.le_of_ble_eq_true rfl) dL_law_1161 (gCont_i ?_)
      refine gw_istore (L' := [(5, vI v204), (0, vR l0), (1, vR l1), (2, vR l2), (3, vR l3), (4, vI l4)]) (Nat.le_of_ble_eq_true rfl) rfl dL_law_1164 ?_
      refine gw_aload_n 3 rfl dL_law_1166 ?_
      refine gw_aload_n 1 rfl dL_law_1167 ?_
      refine gw_iload 5 rfl dL_law_1168 ?_
      refine gw_iconst (v := (1 : Int32)) (by decide) dL_law_1170 ?_
      refine gw_iadd dL_law_1171 ?_
      obtain ⟨v205, hv205, hB⟩ := gB1_some hB
      refine gw_ialdX hX hv205 dL_law_1172 ?_
      obtain ⟨u0, hu208, hB⟩ := gB1_some hB
      obtain ⟨v207, s206, hv207, hB⟩ := gB2_some hB
      refine gw_callV (y := yX6_neededWithout) (lw_V q3030 q3031 q3032 q143 q3033) hdV_X6_neededWithout gcl9 hu208 (As := [vI v205]) (rest := []) (m_X6_neededWithout _ _ _ _ _ hv207) (Nat.le_of_ble_eq_true rfl) (Nat.le_of_ble_eq_true rfl) rfl (Nat.le_of_ble_eq_true rfl) dL_law_1173 (gCont_i ?_)
      refine gw_istore (L' := [(6, vI v207), (5, vI v204), (0, vR l0), (1, vR l1), (2, vR l2), (3, vR l3), (4, vI l4)]) (Nat.le_of_ble_eq_true rfl) rfl dL_law_1176 ?_
      refine gw_aload_n 4 rfl dL_law_1178 ?_
      obtain ⟨u0, hu211, hB⟩ := gB1_some hB
      obtain ⟨v210, s209, hv210, hB⟩ := gB2_some hB
      refine gw_callV (y := yX6_thrown) (lw_V q2734 q2735 q2736 q143 q2737) hdV_X6_thrown gcl9 hu211 (As := []) (rest := []) (m_X6_thrown _ _ _ _ hv210) (Nat.le_of_ble_eq_true rfl) (Nat.le_of_ble_eq_true rfl) rfl (Nat.le_of_ble_eq_true rfl) dL_law_1179 (gCont_i ?_)
      refine gw_iload 1 rfl dL_law_1182 ?_
      refine gw_icmp_eq (tgt := 1189) dL_law_1184 (by decide) (fun hcnd => ?_) (fun hcnd => ?_)
      · rw [if_pos hcnd] at hB
        refine gw_iload 1 rfl dL_law_1189 ?_
        refine gw_if_ne (tgt := 1206) dL_law_1191 (by decide) (fun hcnd => ?_) (fun hcnd => ?_)
        · rw [if_neg hcnd] at hB
          exact gw_sub [2, 3, 4, 5, 6] rfl (w_L_law_1206 hX hk23 _ _ _ _ _ _ hB)
        · rw [if_pos hcnd] at hB
          refine gw_aload_n 5 rfl dL_law_1194 ?_
          refine gw_iconst (v := (0 : Int32)) (by decide) dL_law_1195 ?_
          obtain ⟨v212, hv212, hB⟩ := gB1_some hB
          refine gw_laload hv212 dL_law_1196 ?_
          refine gw_iload 0 rfl dL_law_1197 ?_
          refine gw_i2l dL_law_1199 ?_
          refine gw_lcmp dL_law_1200 ?_
          refine gw_if_eq (tgt := 1206) dL_law_1201 (by decide) (fun hcnd => ?_) (fun hcnd => ?_)
          · rw [if_pos hcnd] at hB
            exact gw_sub [2, 3, 4, 5, 6] rfl (w_L_law_1206 hX hk23 _ _ _ _ _ _ hB)
          · rw [if_neg hcnd] at hB
            refine gw_iconst (v := (0 : Int32)) (by decide) dL_law_1204 ?_
            obtain ⟨u, hu, hB⟩ := gB1_some hB
            obtain ⟨u2, hu2, hB⟩ := gB1_some hB
            obtain ⟨rfl, rfl⟩ := Prod.mk.inj (Option.some.inj hB)
            exact gl_ret rfl rfl rfl rfl rfl hu hu2 dL_law_1205
      · rw [if_neg hcnd] at hB
        refine gw_iconst (v := (0 : Int32)) (by decide) dL_law_1187 ?_
        obtain ⟨u, hu, hB⟩ := gB1_some hB
        obtain ⟨u2, hu2, hB⟩ := gB1_some hB
        obtain ⟨rfl, rfl⟩ := Prod.mk.inj (Option.some.inj hB)
        exact gl_ret rfl rfl rfl rfl rfl hu hu2 dL_law_1188
    rw [if_neg hs18] at hB
    by_cases hs19 : (v2 &&& (31 : Int32)) = (19 : Int32)
    · rw [if_pos hs19] at hB
      refine gw_tableIn (off := 1170) (tgt := 1209) (by rw [hs19]; decide) (by rw [hs19]; decide) (by rw [hs19]; rfl) dL_law_39 (by decide) ?_
      refine gw_aload_n 1 rfl dL_law_1209 ?_
      refine gw_aload_n 0 rfl dL_law_1210 ?_
      refine gw_iload 4 rfl dL_law_1211 ?_
      refine gw_iconst (v := (1 : Int32)) (by decide) dL_law_1213 ?_
      refine gw_iadd dL_law_1214 ?_
      obtain ⟨v213, hv213, hB⟩ := gB1_some hB
      refine gw_ialdX hX hv213 dL_law_1215 ?_
      refine gw_aload_n 3 rfl dL_law_1216 ?_
      obtain ⟨v215, s214, hv215, hB⟩ := gB2_some hB
      refine gw_callSW (y := yX0_changedSince) (lw_SW q2644 q2645 q107 q2646) hdS_X0_changedSince (As := [vR l1, vI v213, vR l3]) (rest := []) (m_X0_changedSince _ _ _ _ _ _ hv215) (Nat.le_of_ble_eq_true rfl) (Nat.le_of_ble_eq_true rfl) rfl (Nat.le_of_ble_eq_true rfl) dL_law_1217 (gCont_i ?_)
      refine gw_istore (L' := [(5, vI v215), (0, vR l0), (1, vR l1), (2, vR l2), (3, vR l3), (4, vI l4)]) (Nat.le_of_ble_eq_true rfl) rfl dL_law_1220 ?_
      refine gw_aload_n 3 rfl dL_law_1222 ?_
      refine gw_aload_n 1 rfl dL_law_1223 ?_
      refine gw_iload 5 rfl dL_law_1224 ?_
      refine gw_iconst (v := (1 : Int32)) (by decide) dL_law_1226 ?_
      refine gw_iadd dL_law_1227 ?_
      obtain ⟨v216, hv216, hB⟩ := gB1_some hB
      refine gw_ialdX hX hv216 dL_law_1228 ?_
      obtain ⟨u0, hu219, hB⟩ := gB1_some hB
      obtain ⟨v218, s217, hv218, hB⟩ := gB2_some hB
      refine gw_callV (y := yX6_changedSince) (lw_V q3034 q3035 q3036 q143 q3037) hdV_X6_changedSince gcl9 hu219 (As := [vI v216]) (rest := []) (m_X6_changedSince _ _ _ _ _ hv218) (Nat.le_of_ble_eq_true rfl) (Nat.le_of_ble_eq_true rfl) rfl (Nat.le_of_ble_eq_true rfl) dL_law_1229 (gCont_i ?_)
      refine gw_istore (L' := [(6, vI v218), (5, vI v215), (0, vR l0), (1, vR l1), (2, vR l2), (3, vR l3), (4, vI l4)]) (Nat.le_of_ble_eq_true rfl) rfl dL_law_1232 ?_
      refine gw_aload_n 4 rfl dL_law_1234 ?_
      obtain ⟨u0, hu222, hB⟩ := gB1_some hB
      obtain ⟨v221, s220, hv221, hB⟩ := gB2_some hB
      refine gw_callV (y := yX6_thrown) (lw_V q2734 q2735 q2736 q143 q2737) hdV_X6_thrown gcl9 hu222 (As := []) (rest := []) (m_X6_thrown _ _ _ _ hv221) (Nat.le_of_ble_eq_true rfl) (Nat.le_of_ble_eq_true rfl) rfl (Nat.le_of_ble_eq_true rfl) dL_law_1235 (gCont_i ?_)
      refine gw_iload 1 rfl dL_law_1238 ?_
      refine gw_icmp_eq (tgt := 1245) dL_law_1240 (by decide) (fun hcnd => ?_) (fun hcnd => ?_)
      · rw [if_pos hcnd] at hB
        refine gw_iload 1 rfl dL_law_1245 ?_
        refine gw_if_ne (tgt := 1262) dL_law_1247 (by decide) (fun hcnd => ?_) (fun hcnd => ?_)
        · rw [if_neg hcnd] at hB
          exact gw_sub [2, 3, 4, 5, 6] rfl (w_L_law_1262 hX hk23 _ _ _ _ _ _ hB)
        · rw [if_pos hcnd] at hB
          refine gw_aload_n 5 rfl dL_law_1250 ?_
          refine gw_iconst (v := (0 : Int32)) (by decide) dL_law_1251 ?_
          obtain ⟨v223, hv223, hB⟩ := gB1_some hB
          refine gw_laload hv223 dL_law_1252 ?_
          refine gw_iload 0 rfl dL_law_1253 ?_
          refine gw_i2l dL_law_1255 ?_
          refine gw_lcmp dL_law_1256 ?_
          refine gw_if_eq (tgt := 1262) dL_law_1257 (by decide) (fun hcnd => ?_) (fun hcnd => ?_)
          · rw [if_pos hcnd] at hB
            exact gw_sub [2, 3, 4, 5, 6] rfl (w_L_law_1262 hX hk23 _ _ _ _ _ _ hB)
          · rw [if_neg hcnd] at hB
            refine gw_iconst (v := (0 : Int32)) (by decide) dL_law_1260 ?_
            obtain ⟨u, hu, hB⟩ := gB1_some hB
            obtain ⟨u2, hu2, hB⟩ := gB1_some hB
            obtain ⟨rfl, rfl⟩ := Prod.mk.inj (Option.some.inj hB)
            exact gl_ret rfl rfl rfl rfl rfl hu hu2 dL_law_1261
      · rw [if_neg hcnd] at hB
        refine gw_iconst (v := (0 : Int32)) (by decide) dL_law_1243 ?_
        obtain ⟨u, hu, hB⟩ := gB1_some hB
        obtain ⟨u2, hu2, hB⟩ := gB1_some hB
        obtain ⟨rfl, rfl⟩ := Prod.mk.inj (Option.some.inj hB)
        exact gl_ret rfl rfl rfl rfl rfl hu hu2 dL_law_1244
    rw [if_neg hs19] at hB
    by_cases hs20 : (v2 &&& (31 : Int32)) = (20 : Int32)
    · rw [if_pos hs20] at hB
      refine gw_tableIn (off := 1226) (tgt := 1265) (by rw [hs20]; decide) (by rw [hs20]; decide) (by rw [hs20]; rfl) dL_law_39 (by decide) ?_
      refine gw_aload_n 1 rfl dL_law_1265 ?_
      refine gw_aload_n 0 rfl dL_law_1266 ?_
      refine gw_iload 4 rfl dL_law_1267 ?_
      refine gw_iconst (v := (1 : Int32)) (by decide) dL_law_1269 ?_
      refine gw_iadd dL_law_1270 ?_
      obtain ⟨v224, hv224, hB⟩ := gB1_some hB
      refine gw_ialdX hX hv224 dL_law_1271 ?_
      refine gw_aload_n 3 rfl dL_law_1272 ?_
      obtain ⟨v226, s225, hv226, hB⟩ := gB2_some hB
      refine gw_callSW (y := yX0_type) (lw_SW q2669 q2670 q107 q2671) hdS_X0_type (As := [vR l1, vI v224, vR l3]) (rest := []) (m_X0_type _ _ _ _ _ _ hv226) (Nat.le_of_ble_eq_true rfl) (Nat.le_of_ble_eq_true rfl) rfl (Nat.le_of_ble_eq_true rfl) dL_law_1273 (gCont_i ?_)
      refine gw_istore (L' := [(5, vI v226), (0, vR l0), (1, vR l1), (2, vR l2), (3, vR l3), (4, vI l4)]) (Nat.le_of_ble_eq_true rfl) rfl dL_law_1276 ?_
      refine gw_aload_n 3 rfl dL_law_1278 ?_
      refine gw_aload_n 1 rfl dL_law_1279 ?_
      refine gw_iload 5 rfl dL_law_1280 ?_
      refine gw_iconst (v := (1 : Int32)) (by decide) dL_law_1282 ?_
      refine gw_iadd dL_law_1283 ?_
      obtain ⟨v227, hv227, hB⟩ := gB1_some hB
      refine gw_ialdX hX hv227 dL_law_1284 ?_
      obtain ⟨u0, hu230, hB⟩ := gB1_some hB
      obtain ⟨v229, s228, hv229, hB⟩ := gB2_some hB
      refine gw_callV (y := yX6_type) (lw_V q3038 q3039 q3040 q143 q3041) hdV_X6_type gcl9 hu230 (As := [vI v227]) (rest := []) (m_X6_type _ _ _ _ _ hv229) (Nat.le_of_ble_eq_true rfl) (Nat.le_of_ble_eq_true rfl) rfl (Nat.le_of_ble_eq_true rfl) dL_law_1285 (gCont_i ?_)
      refine gw_istore (L' := [(6, vI v229), (5, vI v226), (0, vR l0), (1, vR l1), (2, vR l2), (3, vR l3), (4, vI l4)]) (Nat.le_of_ble_eq_true rfl) rfl dL_law_1288 ?_
      refine gw_aload_n 4 rfl dL_law_1290 ?_
      obtain ⟨u0, hu233, hB⟩ := gB1_some hB
      obtain ⟨v232, s231, hv232, hB⟩ := gB2_some hB
      refine gw_callV (y := yX6_thrown) (lw_V q2734 q2735 q2736 q143 q2737) hdV_X6_thrown gcl9 hu233 (As := []) (rest := []) (m_X6_thrown _ _ _ _ hv232) (Nat.le_of_ble_eq_true rfl) (Nat.le_of_ble_eq_true rfl) rfl (Nat.le_of_ble_eq_true rfl) dL_law_1291 (gCont_i ?_)
      refine gw_iload 1 rfl dL_law_1294 ?_
      refine gw_icmp_eq (tgt := 1301) dL_law_1296 (by decide) (fun hcnd => ?_) (fun hcnd => ?_)
      · rw [if_pos hcnd] at hB
        refine gw_iload 1 rfl dL_law_1301 ?_
        refine gw_if_ne (tgt := 1318) dL_law_1303 (by decide) (fun hcnd => ?_) (fun hcnd => ?_)
        · rw [if_neg hcnd] at hB
          exact gw_sub [2, 3, 4, 5, 6] rfl (w_L_law_1318 hX hk23 _ _ _ _ _ _ hB)
        · rw [if_pos hcnd] at hB
          refine gw_aload_n 5 rfl dL_law_1306 ?_
          refine gw_iconst (v := (0 : Int32)) (by decide) dL_law_1307 ?_
          obtain ⟨v234, hv234, hB⟩ := gB1_some hB
          refine gw_laload hv234 dL_law_1308 ?_
          refine gw_iload 0 rfl dL_law_1309 ?_
          refine gw_i2l dL_law_1311 ?_
          refine gw_lcmp dL_law_1312 ?_
          refine gw_if_eq (tgt := 1318) dL_law_1313 (by decide) (fun hcnd => ?_) (fun hcnd => ?_)
          · rw [if_pos hcnd] at hB
            exact gw_sub [2, 3, 4, 5, 6] rfl (w_L_law_1318 hX hk23 _ _ _ _ _ _ hB)
          · rw [if_neg hcnd] at hB
            refine gw_iconst (v := (0 : Int32)) (by decide) dL_law_1316 ?_
            obtain ⟨u, hu, hB⟩ := gB1_some hB
            obtain ⟨u2, hu2, hB⟩ := gB1_some hB
            obtain ⟨rfl, rfl⟩ := Prod.mk.inj (Option.some.inj hB)
            exact gl_ret rfl rfl rfl rfl rfl hu hu2 dL_law_1317
      · rw [if_neg hcnd] at hB
        refine gw_iconst (v := (0 : Int32)) (by decide) dL_law_1299 ?_
        obtain ⟨u, hu, hB⟩ := gB1_some hB
        obtain ⟨u2, hu2, hB⟩ := gB1_some hB
        obtain ⟨rfl, rfl⟩ := Prod.mk.inj (Option.some.inj hB)
        exact gl_ret rfl rfl rfl rfl rfl hu hu2 dL_law_1300
    rw [if_neg hs20] at hB
    by_cases hs21 : (v2 &&& (31 : Int32)) = (21 : Int32)
    · rw [if_pos hs21] at hB
      refine gw_tableIn (off := 1282) (tgt := 1321) (by rw [hs21]; decide) (by rw [hs21]; decide) (by rw [hs21]; rfl) dL_law_39 (by decide) ?_
      refine gw_aload_n 1 rfl dL_law_1321 ?_
      obtain ⟨u0, hu237, hB⟩ := gB1_some hB
      obtain ⟨v236, s235, hv236, hB⟩ := gB2_some hB
      refine gw_callV (y := yX1_clearCommands) (lw_V q1317 q1318 q1319 q108 q1320) hdV_X1_clearCommands gcl0 hu237 (As := []) (rest := []) (m_X1_clearCommands _ _ _ _ hv236) (Nat.le_of_ble_eq_true rfl) (Nat.le_of_ble_eq_true rfl) rfl (Nat.le_of_ble_eq_true rfl) dL_law_1322 (gCont_i ?_)
      refine gw_aload_n 2 rfl dL_law_1325 ?_
      obtain ⟨u0, hu240, hB⟩ := gB1_some hB
      obtain ⟨v239, s238, hv239, hB⟩ := gB2_some hB
      refine gw_callV (y := yX6_clearCommands) (lw_V q3042 q3043 q3044 q143 q3045) hdV_X6_clearCommands gcl9 hu240 (As := []) (rest := [vI v236]) (m_X6_clearCommands _ _ _ _ hv239) (Nat.le_of_ble_eq_true rfl) (Nat.le_of_ble_eq_true rfl) rfl (Nat.le_of_ble_eq_true rfl) dL_law_1326 (gCont_i ?_)
      refine gw_icmp_eq (tgt := 1405) dL_law_1329 (by decide) (fun hcnd => ?_) (fun hcnd => ?_)
      · rw [if_pos hcnd] at hB
        exact gw_sub [0, 1, 2, 3, 4] rfl (w_L_law_1405 hX hk23 _ _ _ _ _ _ hB)
      · rw [if_neg hcnd] at hB
        refine gw_iconst (v := (0 : Int32)) (by decide) dL_law_1332 ?_
        obtain ⟨u, hu, hB⟩ := gB1_some hB
        obtain ⟨u2, hu2, hB⟩ := gB1_some hB
        obtain ⟨rfl, rfl⟩ := Prod.mk.inj (Option.some.inj hB)
        exact gl_ret rfl rfl rfl rfl rfl hu hu2 dL_law_1333
    rw [if_neg hs21] at hB
    by_cases hs22 : (v2 &&& (31 : Int32)) = (22 : Int32)
    · rw [if_pos hs22] at hB
      refine gw_tableIn (off := 1295) (tgt := 1334) (by rw [hs22]; decide) (by rw [hs22]; decide) (by rw [hs22]; rfl) dL_law_39 (by decide) ?_
      refine gw_aload_n 1 rfl dL_law_1334 ?_
      obtain ⟨u0, hu243, hB⟩ := gB1_some hB
      obtain ⟨v242, s241, hv242, hB⟩ := gB2_some hB
      refine gw_callV (y := yX1_runCommands) (lw_V q1321 q1322 q1323 q108 q1324) hdV_X1_runCommands gcl0 hu243 (As := []) (rest := []) (m_X1_runCommands _ _ _ _ hv242) (Nat.le_of_ble_eq_true rfl) (Nat.le_of_ble_eq_true rfl) rfl (Nat.le_of_ble_eq_true rfl) dL_law_1335 (gCont_i ?_)
      refine gw_aload_n 2 rfl dL_law_1338 ?_
      obtain ⟨u0, hu246, hB⟩ := gB1_some hB
      obtain ⟨v245, s244, hv245, hB⟩ := gB2_some hB
      refine gw_callV (y := yX6_runCommands) (lw_V q3046 q3047 q3048 q143 q3049) hdV_X6_runCommands gcl9 hu246 (As := []) (rest := [vI v242]) (m_X6_runCommands _ _ _ _ hv245) (Nat.le_of_ble_eq_true rfl) (Nat.le_of_ble_eq_true rfl) rfl (Nat.le_of_ble_eq_true rfl) dL_law_1339 (gCont_i ?_)
      refine gw_icmp_eq (tgt := 1405) dL_law_1342 (by decide) (fun hcnd => ?_) (fun hcnd => ?_)
      · rw [if_pos hcnd] at hB
        exact gw_sub [0, 1, 2, 3, 4] rfl (w_L_law_1405 hX hk23 _ _ _ _ _ _ hB)
      · rw [if_neg hcnd] at hB
        refine gw_iconst (v := (0 : Int32)) (by decide) dL_law_1345 ?_
        obtain ⟨u, hu, hB⟩ := gB1_some hB
        obtain ⟨u2, hu2, hB⟩ := gB1_some hB
        obtain ⟨rfl, rfl⟩ := Prod.mk.inj (Option.some.inj hB)
        exact gl_ret rfl rfl rfl rfl rfl hu hu2 dL_law_1346
    rw [if_neg hs22] at hB
    by_cases hs23 : (v2 &&& (31 : Int32)) = (23 : Int32)
    · rw [if_pos hs23] at hB
      refine gw_tableIn (off := 1308) (tgt := 1347) (by rw [hs23]; decide) (by rw [hs23]; decide) (by rw [hs23]; rfl) dL_law_39 (by decide) ?_
      refine gw_aload_n 1 rfl dL_law_1347 ?_
      refine gw_aload_n 3 rfl dL_law_1348 ?_
      obtain ⟨v248, s247, hv248, hB⟩ := gB2_some hB
      refine gw_callSW (y := yX0_undo) (lw_SW q2680 q2681 q107 q2682) hdS_X0_undo (As := [vR l1, vR l3]) (rest := []) (m_X0_undo _ _ _ _ _ hv248) (Nat.le_of_ble_eq_true rfl) (Nat.le_of_ble_eq_true rfl) rfl (Nat.le_of_ble_eq_true rfl) dL_law_1349 (gCont_i ?_)
      refine gw_istore (L' := [(5, vI v248), (0, vR l0), (1, vR l1), (2, vR l2), (3, vR l3), (4, vI l4)]) (Nat.le_of_ble_eq_true rfl) rfl dL_law_1352 ?_
      refine gw_aload_n 3 rfl dL_law_1354 ?_
      obtain ⟨u0, hu251, hB⟩ := gB1_some hB
      obtain ⟨v250, s249, hv250, hB⟩ := gB2_some hB
      refine gw_callV (y := yX6_undo) (lw_V q3086 q3087 q3088 q143 q3089) hdV_X6_undo gcl9 hu251 (As := []) (rest := []) (m_X6_undo _ _ _ _ hv250) (Nat.le_of_ble_eq_true rfl) (Nat.le_of_ble_eq_true rfl) rfl (Nat.le_of_ble_eq_true rfl) dL_law_1355 (gCont_i ?_)
      refine gw_istore (L' := [(6, vI v250), (5, vI v248), (0, vR l0), (1, vR l1), (2, vR l2), (3, vR l3), (4, vI l4)]) (Nat.le_of_ble_eq_true rfl) rfl dL_law_1358 ?_
      refine gw_aload_n 4 rfl dL_law_1360 ?_
      obtain ⟨u0, hu254, hB⟩ := gB1_some hB
      obtain ⟨v253, s252, hv253, hB⟩ := gB2_some hB
      refine gw_callV (y := yX6_thrown) (lw_V q2734 q2735 q2736 q143 q2737) hdV_X6_thrown gcl9 hu254 (As := []) (rest := []) (m_X6_thrown _ _ _ _ hv253) (Nat.le_of_ble_eq_true rfl) (Nat.le_of_ble_eq_true rfl) rfl (Nat.le_of_ble_eq_true rfl) dL_law_1361 (gCont_i ?_)
      refine gw_iload 1 rfl dL_law_1364 ?_
      refine gw_icmp_eq (tgt := 1371) dL_law_1366 (by decide) (fun hcnd => ?_) (fun hcnd => ?_)
      · rw [if_pos hcnd] at hB
        refine gw_iload 1 rfl dL_law_1371 ?_
        refine gw_if_ne (tgt := 1388) dL_law_1373 (by decide) (fun hcnd => ?_) (fun hcnd => ?_)
        · rw [if_neg hcnd] at hB
          exact gw_sub [2, 3, 4, 5, 6] rfl (w_L_law_1388 hX hk23 _ _ _ _ _ _ hB)
        · rw [if_pos hcnd] at hB
          refine gw_aload_n 5 rfl dL_law_1376 ?_
          refine gw_iconst (v := (0 : Int32)) (by decide) dL_law_1377 ?_
          obtain ⟨v255, hv255, hB⟩ := gB1_some hB
          refine gw_laload hv255 dL_law_1378 ?_
          refine gw_iload 0 rfl dL_law_1379 ?_
          refine gw_i2l dL_law_1381 ?_
          refine gw_lcmp dL_law_1382 ?_
          refine gw_if_eq (tgt := 1388) dL_law_1383 (by decide) (fun hcnd => ?_) (fun hcnd => ?_)
          · rw [if_pos hcnd] at hB
            exact gw_sub [2, 3, 4, 5, 6] rfl (w_L_law_1388 hX hk23 _ _ _ _ _ _ hB)
          · rw [if_neg hcnd] at hB
            refine gw_iconst (v := (0 : Int32)) (by decide) dL_law_1386 ?_
            obtain ⟨u, hu, hB⟩ := gB1_some hB
            obtain ⟨u2, hu2, hB⟩ := gB1_some hB
            obtain ⟨rfl, rfl⟩ := Prod.mk.inj (Option.some.inj hB)
            exact gl_ret rfl rfl rfl rfl rfl hu hu2 dL_law_1387
      · rw [if_neg hcnd] at hB
        refine gw_iconst (v := (0 : Int32)) (by decide) dL_law_1369 ?_
        obtain ⟨u, hu, hB⟩ := gB1_some hB
        obtain ⟨u2, hu2, hB⟩ := gB1_some hB
        obtain ⟨rfl, rfl⟩ := Prod.mk.inj (Option.some.inj hB)
        exact gl_ret rfl rfl rfl rfl rfl hu hu2 dL_law_1370
    rw [if_neg hs23] at hB
    by_cases hs24 : (v2 &&& (31 : Int32)) = (24 : Int32)
    · rw [if_pos hs24] at hB
      refine gw_tableIn (off := 1352) (tgt := 1391) (by rw [hs24]; decide) (by rw [hs24]; decide) (by rw [hs24]; rfl) dL_law_39 (by decide) ?_
      refine gw_aload_n 1 rfl dL_law_1391 ?_
      obtain ⟨u0, hu258, hB⟩ := gB1_some hB
      rcases gBy_some hB with ⟨v257, s256, hv257, hB⟩ | ⟨Cv257, s256, hv257, hB⟩
      rotate_left
      · cases hB
      refine gw_callV (y := yX1_digest) (lw_V q2382 q2383 q2384 q108 q2385) hdV_X1_digest gcl0 hu258 (As := []) (rest := []) (m_X1_digest _ _ _ _ hv257) (Nat.le_of_ble_eq_true rfl) (Nat.le_of_ble_eq_true rfl) rfl (Nat.le_of_ble_eq_true rfl) dL_law_1392 (gCont_i ?_)
      refine gw_aload_n 2 rfl dL_law_1395 ?_
      obtain ⟨u0, hu261, hB⟩ := gB1_some hB
      obtain ⟨v260, s259, hv260, hB⟩ := gB2_some hB
      refine gw_callV (y := yX6_digest) (lw_V q3090 q3091 q3092 q143 q3093) hdV_X6_digest gcl9 hu261 (As := []) (rest := [vJ v257]) (m_X6_digest _ _ _ _ hv260) (Nat.le_of_ble_eq_true rfl) (Nat.le_of_ble_eq_true rfl) rfl (Nat.le_of_ble_eq_true rfl) dL_law_1396 (gCont_i ?_)
      refine gw_lcmp dL_law_1399 ?_
      refine gw_if_eq (tgt := 1405) dL_law_1400 (by decide) (fun hcnd => ?_) (fun hcnd => ?_)
      · rw [if_pos hcnd] at hB
        exact gw_sub [0, 1, 2, 3, 4] rfl (w_L_law_1405 hX hk23 _ _ _ _ _ _ hB)
      · rw [if_neg hcnd] at hB
        refine gw_iconst (v := (0 : Int32)) (by decide) dL_law_1403 ?_
        obtain ⟨u, hu, hB⟩ := gB1_some hB
        obtain ⟨u2, hu2, hB⟩ := gB1_some hB
        obtain ⟨rfl, rfl⟩ := Prod.mk.inj (Option.some.inj hB)
        exact gl_ret rfl rfl rfl rfl rfl hu hu2 dL_law_1404
    rw [if_neg hs24] at hB
    have ht0 : (v2 &&& (31 : Int32)).toInt ≠ 0 := fun e => hs0 (Int32.toInt_inj.mp (e.trans (by decide)))
    have ht1 : (v2 &&& (31 : Int32)).toInt ≠ 1 := fun e => hs1 (Int32.toInt_inj.mp (e.trans (by decide)))
    have ht2 : (v2 &&& (31 : Int32)).toInt ≠ 2 := fun e => hs2 (Int32.toInt_inj.mp (e.trans (by decide)))
    have ht3 : (v2 &&& (31 : Int32)).toInt ≠ 3 := fun e => hs3 (Int32.toInt_inj.mp (e.trans (by decide)))
    have ht4 : (v2 &&& (31 : Int32)).toInt ≠ 4 := fun e => hs4 (Int32.toInt_inj.mp (e.trans (by decide)))
    have ht5 : (v2 &&& (31 : Int32)).toInt ≠ 5 := fun e => hs5 (Int32.toInt_inj.mp (e.trans (by decide)))
    have ht6 : (v2 &&& (31 : Int32)).toInt ≠ 6 := fun e => hs6 (Int32.toInt_inj.mp (e.trans (by decide)))
    have ht7 : (v2 &&& (31 : Int32)).toInt ≠ 7 := fun e => hs7 (Int32.toInt_inj.mp (e.trans (by decide)))
    have ht8 : (v2 &&& (31 : Int32)).toInt ≠ 8 := fun e => hs8 (Int32.toInt_inj.mp (e.trans (by decide)))
    have ht9 : (v2 &&& (31 : Int32)).toInt ≠ 9 := fun e => hs9 (Int32.toInt_inj.mp (e.trans (by decide)))
    have ht10 : (v2 &&& (31 : Int32)).toInt ≠ 10 := fun e => hs10 (Int32.toInt_inj.mp (e.trans (by decide)))
    have ht11 : (v2 &&& (31 : Int32)).toInt ≠ 11 := fun e => hs11 (Int32.toInt_inj.mp (e.trans (by decide)))
    have ht12 : (v2 &&& (31 : Int32)).toInt ≠ 12 := fun e => hs12 (Int32.toInt_inj.mp (e.trans (by decide)))
    have ht13 : (v2 &&& (31 : Int32)).toInt ≠ 13 := fun e => hs13 (Int32.toInt_inj.mp (e.trans (by decide)))
    have ht14 : (v2 &&& (31 : Int32)).toInt ≠ 14 := fun e => hs14 (Int32.toInt_inj.mp (e.trans (by decide)))
    have ht15 : (v2 &&& (31 : Int32)).toInt ≠ 15 := fun e => hs15 (Int32.toInt_inj.mp (e.trans (by decide)))
    have ht16 : (v2 &&& (31 : Int32)).toInt ≠ 16 := fun e => hs16 (Int32.toInt_inj.mp (e.trans (by decide)))
    have ht17 : (v2 &&& (31 : Int32)).toInt ≠ 17 := fun e => hs17 (Int32.toInt_inj.mp (e.trans (by decide)))
    have ht18 : (v2 &&& (31 : Int32)).toInt ≠ 18 := fun e => hs18 (Int32.toInt_inj.mp (e.trans (by decide)))
    have ht19 : (v2 &&& (31 : Int32)).toInt ≠ 19 := fun e => hs19 (Int32.toInt_inj.mp (e.trans (by decide)))
    have ht20 : (v2 &&& (31 : Int32)).toInt ≠ 20 := fun e => hs20 (Int32.toInt_inj.mp (e.trans (by decide)))
    have ht21 : (v2 &&& (31 : Int32)).toInt ≠ 21 := fun e => hs21 (Int32.toInt_inj.mp (e.trans (by decide)))
    have ht22 : (v2 &&& (31 : Int32)).toInt ≠ 22 := fun e => hs22 (Int32.toInt_inj.mp (e.trans (by decide)))
    have ht23 : (v2 &&& (31 : Int32)).toInt ≠ 23 := fun e => hs23 (Int32.toInt_inj.mp (e.trans (by decide)))
    have ht24 : (v2 &&& (31 : Int32)).toInt ≠ 24 := fun e => hs24 (Int32.toInt_inj.mp (e.trans (by decide)))
    refine gw_tableOut (tgt := 1405) (by omega) dL_law_39 (by decide) ?_
    exact gw_sub [0, 1, 2, 3, 4] rfl (w_L_law_1405 hX hk23 _ _ _ _ _ _ hB)
theorem w_L_law_23 {E : gE} (hX : gXF E) {F : Nat} {r : Int32} {s' : gS}   : ∀ (n : Nat) (l0 : Option Nat) (l1 : Option Nat) (l2 : Option Nat) (l3 : Option Nat) (l4 : Int32)  (s : gS), f_L_law_23 (gk E) F  n l0 l1 l2 l3 l4 s = some (r, s') → W_L_law E r 23 [(0, vR l0), (1, vR l1), (2, vR l2), (3, vR l3), (4, vI l4)] [] s := by
  intro n
  induction n with
  | zero => intro l0 l1 l2 l3 l4 s hB; cases hB
  | succ n ih => intro l0 l1 l2 l3 l4 s hB; exact w_L_law_23b hX ih l0 l1 l2 l3 l4 s hB
noncomputable def f_L_law_0 (κ : gK) (F : Nat)  (l0 : Option Nat) (s : gS) : Option (Int32 × gS) :=
  gB2 (gnw s 0 g0_X1 4) fun v1 s2 =>
  gB1 (gsm v1) fun _ =>
  gB2 (f_X1_init κ F v1  s2) fun v4 s3 =>
  gB2 (gnw s3 9 g0_X6 13) fun v6 s7 =>
  gB1 (gsm v6) fun _ =>
  gB2 (f_X6_init κ F v6  s7) fun v9 s8 =>
  gB2 (gna s8 1 (1 : Int32)) fun v11 s12 =>
  f_L_law_23 κ F  F l0 v1 v6 v11 (0 : Int32) s12
set_option maxHeartbeats 4000000 in
theorem w_L_law_0 {E : gE} (hX : gXF E) {F : Nat} {r : Int32} {s' : gS}   : ∀ (l0 : Option Nat)  (s : gS), f_L_law_0 (gk E) F  l0 s = some (r, s') → W_L_law E r 0 [(0, vR l0)] [] s := by
  intro l0 s hB
  unfold f_L_law_0 at hB
  obtain ⟨v1, s2, hv1, hB⟩ := gB2_some hB
  refine gw_new (C := RX1) (T := TX1) (N := 4) tyX1 tyX1_ok gcl0 in_X1 q166 q167 q108 g0_X1_ok hv1 dL_law_0 ?_
  refine gw_dup rfl dL_law_3 ?_
  obtain ⟨u0, hu5, hB⟩ := gB1_some hB
  obtain ⟨v4, s3, hv4, hB⟩ := gB2_some hB
  refine gw_callI (y := yX1_init) (lw_meth q170) q108 q168 q169 rfl hdS_X1_init (gsm_spec hu5) (As := []) (rest := [vR v1]) (m_X1_init _ _ _ _ hv4) (Nat.le_of_ble_eq_true rfl) (Nat.le_of_ble_eq_true rfl) rfl (Nat.le_of_ble_eq_true rfl) dL_law_4 (gCont_v ?_)
  refine gw_astore_n (L' := [(1, vR v1), (0, vR l0)]) (Nat.le_of_ble_eq_true rfl) rfl dL_law_7 ?_
  obtain ⟨v6, s7, hv6, hB⟩ := gB2_some hB
  refine gw_new (C := RX6) (T := TX6) (N := 13) tyX6 tyX6_ok gcl9 in_X6 q2688 q2689 q143 g0_X6_ok hv6 dL_law_8 ?_
  refine gw_dup rfl dL_law_11 ?_
  obtain ⟨u0, hu10, hB⟩ := gB1_some hB
  obtain ⟨v9, s8, hv9, hB⟩ := gB2_some hB
  refine gw_callI (y := yX6_init) (lw_meth q2692) q143 q2690 q2691 rfl hdS_X6_init (gsm_spec hu10) (As := []) (rest := [vR v6]) (m_X6_init _ _ _ _ hv9) (Nat.le_of_ble_eq_true rfl) (Nat.le_of_ble_eq_true rfl) rfl (Nat.le_of_ble_eq_true rfl) dL_law_12 (gCont_v ?_)
  refine gw_astore_n (L' := [(2, vR v6), (1, vR v1), (0, vR l0)]) (Nat.le_of_ble_eq_true rfl) rfl dL_law_15 ?_
  refine gw_iconst (v := (1 : Int32)) (by decide) dL_law_16 ?_
  obtain ⟨v11, s12, hv11, hB⟩ := gB2_some hB
  refine gw_newarr (atype := .long) (t := 1) rfl rfl rfl (by decide) rfl q3104 hv11 dL_law_17 ?_
  refine gw_astore_n (L' := [(3, vR v11), (2, vR v6), (1, vR v1), (0, vR l0)]) (Nat.le_of_ble_eq_true rfl) rfl dL_law_19 ?_
  refine gw_iconst (v := (0 : Int32)) (by decide) dL_law_20 ?_
  refine gw_istore (L' := [(4, vI (0 : Int32)), (3, vR v11), (2, vR v6), (1, vR v1), (0, vR l0)]) (Nat.le_of_ble_eq_true rfl) rfl dL_law_21 ?_
  exact gw_sub [4, 3, 2, 1, 0] rfl (w_L_law_23 hX  F _ _ _ _ _ _ hB)
noncomputable def f_L_law (κ : gK) (F : Nat) (a1 : Option Nat) (s : gS) : Option (Int32 × gS) := f_L_law_0 κ F a1 s
theorem w_L_law {E : gE} (hX : gXF E) {F : Nat} (a1 : Option Nat) (s : gS) (r : Int32) (s' : gS) (h : f_L_law (gk E) F a1 s = some (r, s')) : gW E (M_L_law E) (gQl E r) 0 [(0, vR a1)] [] s := gw_sub [0] rfl (w_L_law_0 hX _ _ h)
