set_option maxRecDepth 100000
def dkwX3_entriesBy_2 : List UInt8 := [132, 5, 1, 167, 255, 226, 28, 172]
abbrev dktX3_entriesBy_2 : List UInt8 := dkwX3_entriesBy_2 ++ []
def dkwX3_entriesBy_1 : List UInt8 := [162, 0, 29, 45, 21, 5, 46, 54, 6, 28, 42, 21, 6, 182, 0, 64, 185, 0, 141, 1, 0, 96, 61]
abbrev dktX3_entriesBy_1 : List UInt8 := dkwX3_entriesBy_1 ++ dktX3_entriesBy_2
def dkwX3_entriesBy_0 : List UInt8 := [3, 61, 42, 27, 182, 0, 123, 180, 0, 113, 78, 45, 190, 54, 4, 3, 54, 5, 21, 5, 21, 4]
abbrev dktX3_entriesBy_0 : List UInt8 := dkwX3_entriesBy_0 ++ dktX3_entriesBy_1
theorem dksX3_entriesBy_0 : cX3_entriesBy.data.toList.drop 0 = dktX3_entriesBy_0 := by decide +kernel
theorem dksX3_entriesBy_1 : cX3_entriesBy.data.toList.drop 22 = dktX3_entriesBy_1 := dk_seg dksX3_entriesBy_0 22 rfl rfl
theorem dksX3_entriesBy_2 : cX3_entriesBy.data.toList.drop 45 = dktX3_entriesBy_2 := dk_seg dksX3_entriesBy_1 23 rfl rfl
theorem dX3_entriesBy_0 : decode cX3_entriesBy 0 = .ok (.iconst 0, 1) := dk_3 (dk_at dksX3_entriesBy_0 0 rfl rfl)
theorem dX3_entriesBy_1 : decode cX3_entriesBy 1 = .ok (.istore_n 2, 1) := dk_61 (dk_at dksX3_entriesBy_0 1 rfl rfl)
theorem dX3_entriesBy_2 : decode cX3_entriesBy 2 = .ok (.aload_n 0, 1) := dk_42 (dk_at dksX3_entriesBy_0 2 rfl rfl)
theorem dX3_entriesBy_3 : decode cX3_entriesBy 3 = .ok (.iload_n 1, 1) := dk_27 (dk_at dksX3_entriesBy_0 3 rfl rfl)
theorem dX3_entriesBy_4 : decode cX3_entriesBy 4 = .ok (.invokevirtual 123, 3) := dk_182 0 123 (dk_at dksX3_entriesBy_0 4 rfl rfl)
theorem dX3_entriesBy_7 : decode cX3_entriesBy 7 = .ok (.getfield 113, 3) := dk_180 0 113 (dk_at dksX3_entriesBy_0 7 rfl rfl)
theorem dX3_entriesBy_10 : decode cX3_entriesBy 10 = .ok (.astore_n 3, 1) := dk_78 (dk_at dksX3_entriesBy_0 10 rfl rfl)
theorem dX3_entriesBy_11 : decode cX3_entriesBy 11 = .ok (.aload_n 3, 1) := dk_45 (dk_at dksX3_entriesBy_0 11 rfl rfl)
theorem dX3_entriesBy_12 : decode cX3_entriesBy 12 = .ok (.arraylength, 1) := dk_190 (dk_at dksX3_entriesBy_0 12 rfl rfl)
theorem dX3_entriesBy_13 : decode cX3_entriesBy 13 = .ok (.istore 4, 2) := dk_54 4 (dk_at dksX3_entriesBy_0 13 rfl rfl)
theorem dX3_entriesBy_15 : decode cX3_entriesBy 15 = .ok (.iconst 0, 1) := dk_3 (dk_at dksX3_entriesBy_0 15 rfl rfl)
theorem dX3_entriesBy_16 : decode cX3_entriesBy 16 = .ok (.istore 5, 2) := dk_54 5 (dk_at dksX3_entriesBy_0 16 rfl rfl)
theorem dX3_entriesBy_18 : decode cX3_entriesBy 18 = .ok (.iload 5, 2) := dk_21 5 (dk_at dksX3_entriesBy_0 18 rfl rfl)
theorem dX3_entriesBy_20 : decode cX3_entriesBy 20 = .ok (.iload 4, 2) := dk_21 4 (dk_at dksX3_entriesBy_0 20 rfl rfl)
theorem dX3_entriesBy_22 : decode cX3_entriesBy 22 = .ok (.if_icmp .ge 29, 3) := dk_162 0 29 (dk_at dksX3_entriesBy_1 0 rfl rfl)
theorem dX3_entriesBy_25 : decode cX3_entriesBy 25 = .ok (.aload_n 3, 1) := dk_45 (dk_at dksX3_entriesBy_1 3 rfl rfl)
theorem dX3_entriesBy_26 : decode cX3_entriesBy 26 = .ok (.iload 5, 2) := dk_21 5 (dk_at dksX3_entriesBy_1 4 rfl rfl)
theorem dX3_entriesBy_28 : decode cX3_entriesBy 28 = .ok (.iaload, 1) := dk_46 (dk_at dksX3_entriesBy_1 6 rfl rfl)
theorem dX3_entriesBy_29 : decode cX3_entriesBy 29 = .ok (.istore 6, 2) := dk_54 6 (dk_at dksX3_entriesBy_1 7 rfl rfl)
theorem dX3_entriesBy_31 : decode cX3_entriesBy 31 = .ok (.iload_n 2, 1) := dk_28 (dk_at dksX3_entriesBy_1 9 rfl rfl)
theorem dX3_entriesBy_32 : decode cX3_entriesBy 32 = .ok (.aload_n 0, 1) := dk_42 (dk_at dksX3_entriesBy_1 10 rfl rfl)
theorem dX3_entriesBy_33 : decode cX3_entriesBy 33 = .ok (.iload 6, 2) := dk_21 6 (dk_at dksX3_entriesBy_1 11 rfl rfl)
theorem dX3_entriesBy_35 : decode cX3_entriesBy 35 = .ok (.invokevirtual 64, 3) := dk_182 0 64 (dk_at dksX3_entriesBy_1 13 rfl rfl)
theorem dX3_entriesBy_38 : decode cX3_entriesBy 38 = .ok (.invokeinterface 141 1, 5) := by decide +kernel
theorem dX3_entriesBy_43 : decode cX3_entriesBy 43 = .ok (.iadd, 1) := dk_96 (dk_at dksX3_entriesBy_1 21 rfl rfl)
theorem dX3_entriesBy_44 : decode cX3_entriesBy 44 = .ok (.istore_n 2, 1) := dk_61 (dk_at dksX3_entriesBy_1 22 rfl rfl)
theorem dX3_entriesBy_45 : decode cX3_entriesBy 45 = .ok (.iinc 5 1, 3) := dk_132 5 1 (dk_at dksX3_entriesBy_2 0 rfl rfl)
theorem dX3_entriesBy_48 : decode cX3_entriesBy 48 = .ok (.goto (-30), 3) := dk_167 255 226 (dk_at dksX3_entriesBy_2 3 rfl rfl)
theorem dX3_entriesBy_51 : decode cX3_entriesBy 51 = .ok (.iload_n 2, 1) := dk_28 (dk_at dksX3_entriesBy_2 6 rfl rfl)
theorem dX3_entriesBy_52 : decode cX3_entriesBy 52 = .ok (.ireturn, 1) := dk_172 (dk_at dksX3_entriesBy_2 7 rfl rfl)
/-! PageGarden$Garden.entriesBy(I)I -/
abbrev M_X3_entriesBy (z0 n0 : Nat) (s' : gS) : gM := (RX3, cX3_entriesBy, 7, (some FieldType.int), "entriesBy", [], 7, z0, n0, s'.2.1, s'.2.2)
abbrev W_X3_entriesBy (E : gE) (z0 n0 : Nat) (r : Int32) (s' : gS) (pc : Nat) (L : List (Nat × gV)) (st : List gV) (s : gS) : Prop := gW E (M_X3_entriesBy z0 n0 s') (gQm E (M_X3_entriesBy z0 n0 s') (.inl (some (vI r))) s') pc L st s
noncomputable def f_X3_entriesBy_18b (κ : gK) (F : Nat) (k18 : Option Nat → Int32 → Option Nat → Int32 → Int32 → gS → Option (Int32 × gS)) (l0 : Option Nat) (l2 : Int32) (l3 : Option Nat) (l4 : Int32) (l5 : Int32) (s : gS) : Option (Int32 × gS) :=
  if l4 ≤ l5 then
    some (l2, s)
  else
    gB1 (gaI s l3 0 l5) fun v1 =>
    gB1 (gck s l0 7) fun _ =>
    gB2 (f_X3_page κ F l0 v1 s) fun v3 s2 =>
    gB2 (f_psize κ F v3 s2) fun v5 s6 =>
    k18 l0 (l2 + v5) l3 l4 (l5 + (1 : Int32)) s6
noncomputable def f_X3_entriesBy_18 (κ : gK) (F : Nat)  : Nat → Option Nat → Int32 → Option Nat → Int32 → Int32 → gS → Option (Int32 × gS)
  | 0 => fun _ _ _ _ _ _ => none
  | n + 1 => f_X3_entriesBy_18b κ F  (f_X3_entriesBy_18 κ F  n)
set_option maxHeartbeats 4000000 in
theorem w_X3_entriesBy_18b {E : gE} {F z0 n0 : Nat} {r : Int32} {s' : gS} {k18 : Option Nat → Int32 → Option Nat → Int32 → Int32 → gS → Option (Int32 × gS)} (hk18 : ∀ (l0 : Option Nat) (l2 : Int32) (l3 : Option Nat) (l4 : Int32) (l5 : Int32) (s : gS), k18 l0 l2 l3 l4 l5 s = some (r, s') → W_X3_entriesBy E z0 n0 r s' 18 [(0, vR l0), (2, vI l2), (3, vR l3), (4, vI l4), (5, vI l5)] [] s) : ∀ (l0 : Option Nat) (l2 : Int32) (l3 : Option Nat) (l4 : Int32) (l5 : Int32)  (s : gS), f_X3_entriesBy_18b (gk E) F k18 l0 l2 l3 l4 l5 s = some (r, s') → W_X3_entriesBy E z0 n0 r s' 18 [(0, vR l0), (2, vI l2), (3, vR l3), (4, vI l4), (5, vI l5)] [] s := by
  intro l0 l2 l3 l4 l5 s hB
  unfold f_X3_entriesBy_18b at hB
  refine gw_iload 4 rfl dX3_entriesBy_18 ?_
  refine gw_iload 3 rfl dX3_entriesBy_20 ?_
  refine gw_icmp_ge (tgt := 51) dX3_entriesBy_22 (by decide) (fun hcnd => ?_) (fun hcnd => ?_)
  · rw [if_pos hcnd] at hB
    refine gw_iload_n 1 rfl dX3_entriesBy_51 ?_
    obtain ⟨rfl, rfl⟩ := Prod.mk.inj (Option.some.inj hB)
    exact gw_iret rfl rfl rfl dX3_entriesBy_52
  · rw [if_neg hcnd] at hB
    refine gw_aload_n 2 rfl dX3_entriesBy_25 ?_
    refine gw_iload 4 rfl dX3_entriesBy_26 ?_
    obtain ⟨v1, hv1, hB⟩ := gB1_some hB
    refine gw_iaload hv1 dX3_entriesBy_28 ?_
    refine gw_istore (L' := [(6, vI v1), (0, vR l0), (2, vI l2), (3, vR l3), (4, vI l4), (5, vI l5)]) (Nat.le_of_ble_eq_true rfl) rfl dX3_entriesBy_29 ?_
    refine gw_iload_n 2 rfl dX3_entriesBy_31 ?_
    refine gw_aload_n 1 rfl dX3_entriesBy_32 ?_
    refine gw_iload 0 rfl dX3_entriesBy_33 ?_
    obtain ⟨u0, hu4, hB⟩ := gB1_some hB
    obtain ⟨v3, s2, hv3, hB⟩ := gB2_some hB
    refine gw_callV (y := yX3_page) (lw_V q1439 q1440 q1441 q110 q1442) hdV_X3_page gcl7 hu4 (As := [vI v1]) (rest := [vI l2]) (m_X3_page _ _ _ _ _ hv3) (Nat.le_of_ble_eq_true rfl) (Nat.le_of_ble_eq_true rfl) rfl (Nat.le_of_ble_eq_true rfl) dX3_entriesBy_35 (gCont_i ?_)
    obtain ⟨v5, s6, hv5, hB⟩ := gB2_some hB
    refine gf_psize rfl (Nat.le_of_ble_eq_true rfl) (Nat.le_of_ble_eq_true rfl) hv5 dX3_entriesBy_38 ?_
    refine gw_iadd dX3_entriesBy_43 ?_
    refine gw_istore_n (L' := [(2, vI (l2 + v5)), (6, vI v1), (0, vR l0), (3, vR l3), (4, vI l4), (5, vI l5)]) (Nat.le_of_ble_eq_true rfl) rfl dX3_entriesBy_44 ?_
    refine gw_iinc (w := (1 : Int32)) (L' := [(5, vI (l5 + (1 : Int32))), (2, vI (l2 + v5)), (6, vI v1), (0, vR l0), (3, vR l3), (4, vI l4)]) 5 rfl (by decide) (Nat.le_of_ble_eq_true rfl) rfl dX3_entriesBy_45 ?_
    refine gw_goto (tgt := 18) dX3_entriesBy_48 (by decide) ?_
    exact gw_sub [3, 1, 4, 5, 0] rfl (hk18 _ _ _ _ _ _ hB)
theorem w_X3_entriesBy_18 {E : gE} {F z0 n0 : Nat} {r : Int32} {s' : gS}   : ∀ (n : Nat) (l0 : Option Nat) (l2 : Int32) (l3 : Option Nat) (l4 : Int32) (l5 : Int32)  (s : gS), f_X3_entriesBy_18 (gk E) F  n l0 l2 l3 l4 l5 s = some (r, s') → W_X3_entriesBy E z0 n0 r s' 18 [(0, vR l0), (2, vI l2), (3, vR l3), (4, vI l4), (5, vI l5)] [] s := by
  intro n
  induction n with
  | zero => intro l0 l2 l3 l4 l5 s hB; cases hB
  | succ n ih => intro l0 l2 l3 l4 l5 s hB; exact w_X3_entriesBy_18b ih l0 l2 l3 l4 l5 s hB
noncomputable def f_X3_entriesBy_0 (κ : gK) (F : Nat)  (l0 : Option Nat) (l1 : Int32) (s : gS) : Option (Int32 × gS) :=
  gB1 (gck s l0 7) fun _ =>
  gB2 (f_X3_directory κ F l0 l1 s) fun v2 s1 =>
  gB1 (gfR s1 v2 3 0) fun v4 =>
  gB1 (gal s1 v4) fun v5 =>
  f_X3_entriesBy_18 κ F  F l0 (0 : Int32) v4 v5 (0 : Int32) s1
set_option maxHeartbeats 4000000 in
theorem w_X3_entriesBy_0 {E : gE} {F z0 n0 : Nat} {r : Int32} {s' : gS}   : ∀ (l0 : Option Nat) (l1 : Int32)  (s : gS), f_X3_entriesBy_0 (gk E) F  l0 l1 s = some (r, s') → W_X3_entriesBy E z0 n0 r s' 0 [(0, vR l0), (1, vI l1)] [] s := by
  intro l0 l1 s hB
  unfold f_X3_entriesBy_0 at hB
  refine gw_iconst (v := (0 : Int32)) (by decide) dX3_entriesBy_0 ?_
  refine gw_istore_n (L' := [(2, vI (0 : Int32)), (0, vR l0), (1, vI l1)]) (Nat.le_of_ble_eq_true rfl) rfl dX3_entriesBy_1 ?_
  refine gw_aload_n 1 rfl dX3_entriesBy_2 ?_
  refine gw_iload_n 2 rfl dX3_entriesBy_3 ?_
  obtain ⟨u0, hu3, hB⟩ := gB1_some hB
  obtain ⟨v2, s1, hv2, hB⟩ := gB2_some hB
  refine gw_callV (y := yX3_directory) (lw_V q2041 q2043 qs23 q110 q2044) hdV_X3_directory gcl7 hu3 (As := [vI l1]) (rest := []) (m_X3_directory _ _ _ _ _ hv2) (Nat.le_of_ble_eq_true rfl) (Nat.le_of_ble_eq_true rfl) rfl (Nat.le_of_ble_eq_true rfl) dX3_entriesBy_4 (gCont_i ?_)
  obtain ⟨v4, hv4, hB⟩ := gB1_some hB
  refine gw_getfN (C := RX5) (T := TX5) (N := 1) (k := 0) gcl3 (by decide) in_X5 q321 (gfR_spec hv4) dX3_entriesBy_7 ?_
  refine gw_astore_n (L' := [(3, vR v4), (2, vI (0 : Int32)), (0, vR l0), (1, vI l1)]) (Nat.le_of_ble_eq_true rfl) rfl dX3_entriesBy_10 ?_
  refine gw_aload_n 0 rfl dX3_entriesBy_11 ?_
  obtain ⟨v5, hv5, hB⟩ := gB1_some hB
  refine gw_alen hv5 dX3_entriesBy_12 ?_
  refine gw_istore (L' := [(4, vI v5), (3, vR v4), (2, vI (0 : Int32)), (0, vR l0), (1, vI l1)]) (Nat.le_of_ble_eq_true rfl) rfl dX3_entriesBy_13 ?_
  refine gw_iconst (v := (0 : Int32)) (by decide) dX3_entriesBy_15 ?_
  refine gw_istore (L' := [(5, vI (0 : Int32)), (4, vI v5), (3, vR v4), (2, vI (0 : Int32)), (0, vR l0), (1, vI l1)]) (Nat.le_of_ble_eq_true rfl) rfl dX3_entriesBy_16 ?_
  exact gw_sub [4, 3, 2, 1, 0] rfl (w_X3_entriesBy_18  F _ _ _ _ _ _ hB)
noncomputable def f_X3_entriesBy (κ : gK) (F : Nat) (a0 : Option Nat) (a1 : Int32) (s : gS) : Option (Int32 × gS) := f_X3_entriesBy_0 κ F a0 a1 s
theorem m_X3_entriesBy {E : gE} {F : Nat} (a0 : Option Nat) (a1 : Int32) (s : gS) (r : Int32) (s' : gS) (h : f_X3_entriesBy (gk E) F a0 a1 s = some (r, s')) : gCT E 7 yX3_entriesBy (ws_ yX3_entriesBy cX3_entriesBy 7 (some FieldType.int)) [vR a0, vI a1] s (.inl (some (vI r))) s' := by
  refine gCT_of2 (fun h => absurd h (by decide)) (plainFor_of_name (by decide)) (Nat.le_of_ble_eq_true rfl) ?_
  exact gw_sub [0, 1] rfl (w_X3_entriesBy_0 _ _ _ h)
def dkwX3_entryValue_4 : List UInt8 := [29, 172, 29, 25, 8, 182, 0, 249, 100, 62, 132, 6, 1, 167, 255, 173, 17, 252, 24, 172]
abbrev dktX3_entryValue_4 : List UInt8 := dkwX3_entryValue_4 ++ []
def dkwX3_entryValue_3 : List UInt8 := [4, 160, 0, 13, 25, 8, 180, 0, 135, 29, 46, 167, 0, 14, 28, 5, 160, 0, 8, 21, 7, 167, 0, 4]
abbrev dktX3_entryValue_3 : List UInt8 := dkwX3_entryValue_3 ++ dktX3_entryValue_4
def dkwX3_entryValue_2 : List UInt8 := [29, 25, 8, 182, 0, 249, 162, 0, 44, 28, 154, 0, 13, 25, 8, 180, 0, 120, 29, 46, 167, 0, 29, 28]
abbrev dktX3_entryValue_2 : List UInt8 := dkwX3_entryValue_2 ++ dktX3_entryValue_3
def dkwX3_entryValue_1 : List UInt8 := [54, 6, 21, 6, 21, 5, 162, 0, 82, 25, 4, 21, 6, 46, 54, 7, 42, 21, 7, 182, 0, 116, 58, 8]
abbrev dktX3_entryValue_1 : List UInt8 := dkwX3_entryValue_1 ++ dktX3_entryValue_2
def dkwX3_entryValue_0 : List UInt8 := [27, 62, 42, 42, 182, 0, 155, 180, 0, 223, 182, 0, 123, 180, 0, 113, 58, 4, 25, 4, 190, 54, 5, 3]
abbrev dktX3_entryValue_0 : List UInt8 := dkwX3_entryValue_0 ++ dktX3_entryValue_1
theorem dksX3_entryValue_0 : cX3_entryValue.data.toList.drop 0 = dktX3_entryValue_0 := by decide +kernel
theorem dksX3_entryValue_1 : cX3_entryValue.data.toList.drop 24 = dktX3_entryValue_1 := dk_seg dksX3_entryValue_0 24 rfl rfl
theorem dksX3_entryValue_2 : cX3_entryValue.data.toList.drop 48 = dktX3_entryValue_2 := dk_seg dksX3_entryValue_1 24 rfl rfl
theorem dksX3_entryValue_3 : cX3_entryValue.data.toList.drop 72 = dktX3_entryValue_3 := dk_seg dksX3_entryValue_2 24 rfl rfl
theorem dksX3_entryValue_4 : cX3_entryValue.data.toList.drop 96 = dktX3_entryValue_4 := dk_seg dksX3_entryValue_3 24 rfl rfl
theorem dX3_entryValue_0 : decode cX3_entryValue 0 = .ok (.iload_n 1, 1) := dk_27 (dk_at dksX3_entryValue_0 0 rfl rfl)
theorem dX3_entryValue_1 : decode cX3_entryValue 1 = .ok (.istore_n 3, 1) := dk_62 (dk_at dksX3_entryValue_0 1 rfl rfl)
theorem dX3_entryValue_2 : decode cX3_entryValue 2 = .ok (.aload_n 0, 1) := dk_42 (dk_at dksX3_entryValue_0 2 rfl rfl)
theorem dX3_entryValue_3 : decode cX3_entryValue 3 = .ok (.aload_n 0, 1) := dk_42 (dk_at dksX3_entryValue_0 3 rfl rfl)
theorem dX3_entryValue_4 : decode cX3_entryValue 4 = .ok (.invokevirtual 155, 3) := dk_182 0 155 (dk_at dksX3_entryValue_0 4 rfl rfl)
theorem dX3_entryValue_7 : decode cX3_entryValue 7 = .ok (.getfield 223, 3) := dk_180 0 223 (dk_at dksX3_entryValue_0 7 rfl rfl)
theorem dX3_entryValue_10 : decode cX3_entryValue 10 = .ok (.invokevirtual 123, 3) := dk_182 0 123 (dk_at dksX3_entryValue_0 10 rfl rfl)
theorem dX3_entryValue_13 : decode cX3_entryValue 13 = .ok (.getfield 113, 3) := dk_180 0 113 (dk_at dksX3_entryValue_0 13 rfl rfl)
theorem dX3_entryValue_16 : decode cX3_entryValue 16 = .ok (.astore 4, 2) := dk_58 4 (dk_at dksX3_entryValue_0 16 rfl rfl)
theorem dX3_entryValue_18 : decode cX3_entryValue 18 = .ok (.aload 4, 2) := dk_25 4 (dk_at dksX3_entryValue_0 18 rfl rfl)
theorem dX3_entryValue_20 : decode cX3_entryValue 20 = .ok (.arraylength, 1) := dk_190 (dk_at dksX3_entryValue_0 20 rfl rfl)
theorem dX3_entryValue_21 : decode cX3_entryValue 21 = .ok (.istore 5, 2) := dk_54 5 (dk_at dksX3_entryValue_0 21 rfl rfl)
theorem dX3_entryValue_23 : decode cX3_entryValue 23 = .ok (.iconst 0, 1) := dk_3 (dk_at dksX3_entryValue_0 23 rfl rfl)
theorem dX3_entryValue_24 : decode cX3_entryValue 24 = .ok (.istore 6, 2) := dk_54 6 (dk_at dksX3_entryValue_1 0 rfl rfl)
theorem dX3_entryValue_26 : decode cX3_entryValue 26 = .ok (.iload 6, 2) := dk_21 6 (dk_at dksX3_entryValue_1 2 rfl rfl)
theorem dX3_entryValue_28 : decode cX3_entryValue 28 = .ok (.iload 5, 2) := dk_21 5 (dk_at dksX3_entryValue_1 4 rfl rfl)
theorem dX3_entryValue_30 : decode cX3_entryValue 30 = .ok (.if_icmp .ge 82, 3) := dk_162 0 82 (dk_at dksX3_entryValue_1 6 rfl rfl)
theorem dX3_entryValue_33 : decode cX3_entryValue 33 = .ok (.aload 4, 2) := dk_25 4 (dk_at dksX3_entryValue_1 9 rfl rfl)
theorem dX3_entryValue_35 : decode cX3_entryValue 35 = .ok (.iload 6, 2) := dk_21 6 (dk_at dksX3_entryValue_1 11 rfl rfl)
theorem dX3_entryValue_37 : decode cX3_entryValue 37 = .ok (.iaload, 1) := dk_46 (dk_at dksX3_entryValue_1 13 rfl rfl)
theorem dX3_entryValue_38 : decode cX3_entryValue 38 = .ok (.istore 7, 2) := dk_54 7 (dk_at dksX3_entryValue_1 14 rfl rfl)
theorem dX3_entryValue_40 : decode cX3_entryValue 40 = .ok (.aload_n 0, 1) := dk_42 (dk_at dksX3_entryValue_1 16 rfl rfl)
theorem dX3_entryValue_41 : decode cX3_entryValue 41 = .ok (.iload 7, 2) := dk_21 7 (dk_at dksX3_entryValue_1 17 rfl rfl)
theorem dX3_entryValue_43 : decode cX3_entryValue 43 = .ok (.invokevirtual 116, 3) := dk_182 0 116 (dk_at dksX3_entryValue_1 19 rfl rfl)
theorem dX3_entryValue_46 : decode cX3_entryValue 46 = .ok (.astore 8, 2) := dk_58 8 (dk_at dksX3_entryValue_1 22 rfl rfl)
theorem dX3_entryValue_48 : decode cX3_entryValue 48 = .ok (.iload_n 3, 1) := dk_29 (dk_at dksX3_entryValue_2 0 rfl rfl)
theorem dX3_entryValue_49 : decode cX3_entryValue 49 = .ok (.aload 8, 2) := dk_25 8 (dk_at dksX3_entryValue_2 1 rfl rfl)
theorem dX3_entryValue_51 : decode cX3_entryValue 51 = .ok (.invokevirtual 249, 3) := dk_182 0 249 (dk_at dksX3_entryValue_2 3 rfl rfl)
theorem dX3_entryValue_54 : decode cX3_entryValue 54 = .ok (.if_icmp .ge 44, 3) := dk_162 0 44 (dk_at dksX3_entryValue_2 6 rfl rfl)
theorem dX3_entryValue_57 : decode cX3_entryValue 57 = .ok (.iload_n 2, 1) := dk_28 (dk_at dksX3_entryValue_2 9 rfl rfl)
theorem dX3_entryValue_58 : decode cX3_entryValue 58 = .ok (.ifCond .ne 13, 3) := dk_154 0 13 (dk_at dksX3_entryValue_2 10 rfl rfl)
theorem dX3_entryValue_61 : decode cX3_entryValue 61 = .ok (.aload 8, 2) := dk_25 8 (dk_at dksX3_entryValue_2 13 rfl rfl)
theorem dX3_entryValue_63 : decode cX3_entryValue 63 = .ok (.getfield 120, 3) := dk_180 0 120 (dk_at dksX3_entryValue_2 15 rfl rfl)
theorem dX3_entryValue_66 : decode cX3_entryValue 66 = .ok (.iload_n 3, 1) := dk_29 (dk_at dksX3_entryValue_2 18 rfl rfl)
theorem dX3_entryValue_67 : decode cX3_entryValue 67 = .ok (.iaload, 1) := dk_46 (dk_at dksX3_entryValue_2 19 rfl rfl)
theorem dX3_entryValue_68 : decode cX3_entryValue 68 = .ok (.goto 29, 3) := dk_167 0 29 (dk_at dksX3_entryValue_2 20 rfl rfl)
theorem dX3_entryValue_71 : decode cX3_entryValue 71 = .ok (.iload_n 2, 1) := dk_28 (dk_at dksX3_entryValue_2 23 rfl rfl)
theorem dX3_entryValue_72 : decode cX3_entryValue 72 = .ok (.iconst 1, 1) := dk_4 (dk_at dksX3_entryValue_3 0 rfl rfl)
theorem dX3_entryValue_73 : decode cX3_entryValue 73 = .ok (.if_icmp .ne 13, 3) := dk_160 0 13 (dk_at dksX3_entryValue_3 1 rfl rfl)
theorem dX3_entryValue_76 : decode cX3_entryValue 76 = .ok (.aload 8, 2) := dk_25 8 (dk_at dksX3_entryValue_3 4 rfl rfl)
theorem dX3_entryValue_78 : decode cX3_entryValue 78 = .ok (.getfield 135, 3) := dk_180 0 135 (dk_at dksX3_entryValue_3 6 rfl rfl)
theorem dX3_entryValue_81 : decode cX3_entryValue 81 = .ok (.iload_n 3, 1) := dk_29 (dk_at dksX3_entryValue_3 9 rfl rfl)
theorem dX3_entryValue_82 : decode cX3_entryValue 82 = .ok (.iaload, 1) := dk_46 (dk_at dksX3_entryValue_3 10 rfl rfl)
theorem dX3_entryValue_83 : decode cX3_entryValue 83 = .ok (.goto 14, 3) := dk_167 0 14 (dk_at dksX3_entryValue_3 11 rfl rfl)
theorem dX3_entryValue_86 : decode cX3_entryValue 86 = .ok (.iload_n 2, 1) := dk_28 (dk_at dksX3_entryValue_3 14 rfl rfl)
theorem dX3_entryValue_87 : decode cX3_entryValue 87 = .ok (.iconst 2, 1) := dk_5 (dk_at dksX3_entryValue_3 15 rfl rfl)
theorem dX3_entryValue_88 : decode cX3_entryValue 88 = .ok (.if_icmp .ne 8, 3) := dk_160 0 8 (dk_at dksX3_entryValue_3 16 rfl rfl)
theorem dX3_entryValue_91 : decode cX3_entryValue 91 = .ok (.iload 7, 2) := dk_21 7 (dk_at dksX3_entryValue_3 19 rfl rfl)
theorem dX3_entryValue_93 : decode cX3_entryValue 93 = .ok (.goto 4, 3) := dk_167 0 4 (dk_at dksX3_entryValue_3 21 rfl rfl)
theorem dX3_entryValue_96 : decode cX3_entryValue 96 = .ok (.iload_n 3, 1) := dk_29 (dk_at dksX3_entryValue_4 0 rfl rfl)
theorem dX3_entryValue_97 : decode cX3_entryValue 97 = .ok (.ireturn, 1) := dk_172 (dk_at dksX3_entryValue_4 1 rfl rfl)
theorem dX3_entryValue_98 : decode cX3_entryValue 98 = .ok (.iload_n 3, 1) := dk_29 (dk_at dksX3_entryValue_4 2 rfl rfl)
theorem dX3_entryValue_99 : decode cX3_entryValue 99 = .ok (.aload 8, 2) := dk_25 8 (dk_at dksX3_entryValue_4 3 rfl rfl)
theorem dX3_entryValue_101 : decode cX3_entryValue 101 = .ok (.invokevirtual 249, 3) := dk_182 0 249 (dk_at dksX3_entryValue_4 5 rfl rfl)
theorem dX3_entryValue_104 : decode cX3_entryValue 104 = .ok (.isub, 1) := dk_100 (dk_at dksX3_entryValue_4 8 rfl rfl)
theorem dX3_entryValue_105 : decode cX3_entryValue 105 = .ok (.istore_n 3, 1) := dk_62 (dk_at dksX3_entryValue_4 9 rfl rfl)
theorem dX3_entryValue_106 : decode cX3_entryValue 106 = .ok (.iinc 6 1, 3) := dk_132 6 1 (dk_at dksX3_entryValue_4 10 rfl rfl)
theorem dX3_entryValue_109 : decode cX3_entryValue 109 = .ok (.goto (-83), 3) := dk_167 255 173 (dk_at dksX3_entryValue_4 13 rfl rfl)
theorem dX3_entryValue_112 : decode cX3_entryValue 112 = .ok (.sipush (-1000), 3) := dk_17 252 24 (dk_at dksX3_entryValue_4 16 rfl rfl)
theorem dX3_entryValue_115 : decode cX3_entryValue 115 = .ok (.ireturn, 1) := dk_172 (dk_at dksX3_entryValue_4 19 rfl rfl)
/-! PageGarden$Garden.entryValue(II)I -/
abbrev M_X3_entryValue (z0 n0 : Nat) (s' : gS) : gM := (RX3, cX3_entryValue, 9, (some FieldType.int), "entryValue", [], 7, z0, n0, s'.2.1, s'.2.2)
abbrev W_X3_entryValue (E : gE) (z0 n0 : Nat) (r : Int32) (s' : gS) (pc : Nat) (L : List (Nat × gV)) (st : List gV) (s : gS) : Prop := gW E (M_X3_entryValue z0 n0 s') (gQm E (M_X3_entryValue z0 n0 s') (.inl (some (vI r))) s') pc L st s
noncomputable def f_X3_entryValue_97 (κ : gK) (F : Nat)  (t0 : Int32) (s : gS) : Option (Int32 × gS) :=
  some (t0, s)
set_option maxHeartbeats 4000000 in
theorem w_X3_entryValue_97 {E : gE} {F z0 n0 : Nat} {r : Int32} {s' : gS}   : ∀  (t0 : Int32) (s : gS), f_X3_entryValue_97 (gk E) F  t0 s = some (r, s') → W_X3_entryValue E z0 n0 r s' 97 [] [vI t0] s := by
  intro t0 s hB
  unfold f_X3_entryValue_97 at hB
  obtain ⟨rfl, rfl⟩ := Prod.mk.inj (Option.some.inj hB)
  exact gw_iret rfl rfl rfl dX3_entryValue_97
noncomputable def f_X3_entryValue_26b (κ : gK) (F : Nat) (k26 : Option Nat → Int32 → Int32 → Option Nat → Int32 → Int32 → gS → Option (Int32 × gS)) (l0 : Option Nat) (l2 : Int32) (l3 : Int32) (l4 : Option Nat) (l5 : Int32) (l6 : Int32) (s : gS) : Option (Int32 × gS) :=
  if l5 ≤ l6 then
    some ((-1000 : Int32), s)
  else
    gB1 (gaI s l4 0 l6) fun v1 =>
    gB1 (gck s l0 7) fun _ =>
    gB2 (f_X3_leaf κ F l0 v1 s) fun v3 s2 =>
    gB1 (gck s2 v3 2) fun _ =>
    gB2 (f_X9_size κ F v3  s2) fun v6 s5 =>
    if v6 ≤ l3 then
      gB1 (gck s5 v3 2) fun _ =>
      gB2 (f_X9_size κ F v3  s5) fun v9 s8 =>
      k26 l0 l2 (l3 - v9) l4 l5 (l6 + (1 : Int32)) s8
    else
      if l2 = 0 then
        gB1 (gfR s5 v3 2 0) fun v13 =>
        gB1 (gaI s5 v13 0 l3) fun v14 =>
        f_X3_entryValue_97 κ F  v14 s5
      else
        if l2 = (1 : Int32) then
          gB1 (gfR s5 v3 2 1) fun v11 =>
          gB1 (gaI s5 v11 0 l3) fun v12 =>
          f_X3_entryValue_97 κ F  v12 s5
        else
          if l2 = (2 : Int32) then
            f_X3_entryValue_97 κ F  v1 s5
          else
            f_X3_entryValue_97 κ F  l3 s5
noncomputable def f_X3_entryValue_26 (κ : gK) (F : Nat)  : Nat → Option Nat → Int32 → Int32 → Option Nat → Int32 → Int32 → gS → Option (Int32 × gS)
  | 0 => fun _ _ _ _ _ _ _ => none
  | n + 1 => f_X3_entryValue_26b κ F  (f_X3_entryValue_26 κ F  n)
set_option maxHeartbeats 4000000 in
theorem w_X3_entryValue_26b {E : gE} {F z0 n0 : Nat} {r : Int32} {s' : gS} {k26 : Option Nat → Int32 → Int32 → Option Nat → Int32 → Int32 → gS → Option (Int32 × gS)} (hk26 : ∀ (l0 : Option Nat) (l2 : Int32) (l3 : Int32) (l4 : Option Nat) (l5 : Int32) (l6 : Int32) (s : gS), k26 l0 l2 l3 l4 l5 l6 s = some (r, s') → W_X3_entryValue E z0 n0 r s' 26 [(0, vR l0), (2, vI l2), (3, vI l3), (4, vR l4), (5, vI l5), (6, vI l6)] [] s) : ∀ (l0 : Option Nat) (l2 : Int32) (l3 : Int32) (l4 : Option Nat) (l5 : Int32) (l6 : Int32)  (s : gS), f_X3_entryValue_26b (gk E) F k26 l0 l2 l3 l4 l5 l6 s = some (r, s') → W_X3_entryValue E z0 n0 r s' 26 [(0, vR l0), (2, vI l2), (3, vI l3), (4, vR l4), (5, vI l5), (6, vI l6)] [] s := by
  intro l0 l2 l3 l4 l5 l6 s hB
  unfold f_X3_entryValue_26b at hB
  refine gw_iload 5 rfl dX3_entryValue_26 ?_
  refine gw_iload 4 rfl dX3_entryValue_28 ?_
  refine gw_icmp_ge (tgt := 112) dX3_entryValue_30 (by decide) (fun hcnd => ?_) (fun hcnd => ?_)
  · rw [if_pos hcnd] at hB
    refine gw_sipush (v := (-1000 : Int32)) (by decide) dX3_entryValue_112 ?_
    obtain ⟨rfl, rfl⟩ := Prod.mk.inj (Option.some.inj hB)
    exact gw_iret rfl rfl rfl dX3_entryValue_115
  · rw [if_neg hcnd] at hB
    refine gw_aload 3 rfl dX3_entryValue_33 ?_
    refine gw_iload 5 rfl dX3_entryValue_35 ?_
    obtain ⟨v1, hv1, hB⟩ := gB1_some hB
    refine gw_iaload hv1 dX3_entryValue_37 ?_
    refine gw_istore (L' := [(7, vI v1), (0, vR l0), (2, vI l2), (3, vI l3), (4, vR l4), (5, vI l5), (6, vI l6)]) (Nat.le_of_ble_eq_true rfl) rfl dX3_entryValue_38 ?_
    refine gw_aload_n 1 rfl dX3_entryValue_40 ?_
    refine gw_iload 0 rfl dX3_entryValue_41 ?_
    obtain ⟨u0, hu4, hB⟩ := gB1_some hB
    obtain ⟨v3, s2, hv3, hB⟩ := gB2_some hB
    refine gw_callV (y := yX3_leaf) (lw_V q2057 q2059 qs26 q110 q2060) hdV_X3_leaf gcl7 hu4 (As := [vI v1]) (rest := []) (m_X3_leaf _ _ _ _ _ hv3) (Nat.le_of_ble_eq_true rfl) (Nat.le_of_ble_eq_true rfl) rfl (Nat.le_of_ble_eq_true rfl) dX3_entryValue_43 (gCont_i ?_)
    refine gw_astore (L' := [(8, vR v3), (7, vI v1), (0, vR l0), (2, vI l2), (3, vI l3), (4, vR l4), (5, vI l5), (6, vI l6)]) (Nat.le_of_ble_eq_true rfl) rfl dX3_entryValue_46 ?_
    refine gw_iload_n 4 rfl dX3_entryValue_48 ?_
    refine gw_aload 0 rfl dX3_entryValue_49 ?_
    obtain ⟨u0, hu7, hB⟩ := gB1_some hB
    obtain ⟨v6, s5, hv6, hB⟩ := gB2_some hB
    refine gw_callV (y := yX9_size) (lw_V q2071 q2072 q2073 q160 q2074) hdV_X9_size gcl2 hu7 (As := []) (rest := [vI l3]) (m_X9_size _ _ _ _ hv6) (Nat.le_of_ble_eq_true rfl) (Nat.le_of_ble_eq_true rfl) rfl (Nat.le_of_ble_eq_true rfl) dX3_entryValue_51 (gCont_i ?_)
    refine gw_icmp_ge (tgt := 98) dX3_entryValue_54 (by decide) (fun hcnd => ?_) (fun hcnd => ?_)
    · rw [if_pos hcnd] at hB
      refine gw_iload_n 4 rfl dX3_entryValue_98 ?_
      refine gw_aload 0 rfl dX3_entryValue_99 ?_
      obtain ⟨u0, hu10, hB⟩ := gB1_some hB
      obtain ⟨v9, s8, hv9, hB⟩ := gB2_some hB
      refine gw_callV (y := yX9_size) (lw_V q2071 q2072 q2073 q160 q2074) hdV_X9_size gcl2 hu10 (As := []) (rest := [vI l3]) (m_X9_size _ _ _ _ hv9) (Nat.le_of_ble_eq_true rfl) (Nat.le_of_ble_eq_true rfl) rfl (Nat.le_of_ble_eq_true rfl) dX3_entryValue_101 (gCont_i ?_)
      refine gw_isub dX3_entryValue_104 ?_
      refine gw_istore_n (L' := [(3, vI (l3 - v9)), (8, vR v3), (7, vI v1), (0, vR l0), (2, vI l2), (4, vR l4), (5, vI l5), (6, vI l6)]) (Nat.le_of_ble_eq_true rfl) rfl dX3_entryValue_105 ?_
      refine gw_iinc (w := (1 : Int32)) (L' := [(6, vI (l6 + (1 : Int32))), (3, vI (l3 - v9)), (8, vR v3), (7, vI v1), (0, vR l0), (2, vI l2), (4, vR l4), (5, vI l5)]) 7 rfl (by decide) (Nat.le_of_ble_eq_true rfl) rfl dX3_entryValue_106 ?_
      refine gw_goto (tgt := 26) dX3_entryValue_109 (by decide) ?_
      exact gw_sub [4, 5, 1, 6, 7, 0] rfl (hk26 _ _ _ _ _ _ _ hB)
    · rw [if_neg hcnd] at hB
      refine gw_iload_n 3 rfl dX3_entryValue_57 ?_
      refine gw_if_ne (tgt := 71) dX3_entryValue_58 (by decide) (fun hcnd => ?_) (fun hcnd => ?_)
      · rw [if_neg hcnd] at hB
        refine gw_iload_n 3 rfl dX3_entryValue_71 ?_
        refine gw_iconst (v := (1 : Int32)) (by decide) dX3_entryValue_72 ?_
        refine gw_icmp_ne (tgt := 86) dX3_entryValue_73 (by decide) (fun hcnd => ?_) (fun hcnd => ?_)
        · rw [if_neg hcnd] at hB
          refine gw_iload_n 3 rfl dX3_entryValue_86 ?_
          refine gw_iconst (v := (2 : Int32)) (by decide) dX3_entryValue_87 ?_
          refine gw_icmp_ne (tgt := 96) dX3_entryValue_88 (by decide) (fun hcnd => ?_) (fun hcnd => ?_)
          · rw [if_neg hcnd] at hB
            refine gw_iload_n 4 rfl dX3_entryValue_96 ?_
            exact gw_sub [] rfl (w_X3_entryValue_97  _ _ hB)
          · rw [if_pos hcnd] at hB
            refine gw_iload 1 rfl dX3_entryValue_91 ?_
            refine gw_goto (tgt := 97) dX3_entryValue_93 (by decide) ?_
            exact gw_sub [] rfl (w_X3_entryValue_97  _ _ hB)
        · rw [if_pos hcnd] at hB
          refine gw_aload 0 rfl dX3_entryValue_76 ?_
          obtain ⟨v11, hv11, hB⟩ := gB1_some hB
          refine gw_getfN (C := RX9) (T := TX9) (N := 2) (k := 1) gcl2 (by decide) in_X9 q2173 (gfR_spec hv11) dX3_entryValue_78 ?_
          refine gw_iload_n 4 rfl dX3_entryValue_81 ?_
          obtain ⟨v12, hv12, hB⟩ := gB1_some hB
          refine gw_iaload hv12 dX3_entryValue_82 ?_
          refine gw_goto (tgt := 97) dX3_entryValue_83 (by decide) ?_
          exact gw_sub [] rfl (w_X3_entryValue_97  _ _ hB)
      · rw [if_pos hcnd] at hB
        refine gw_aload 0 rfl dX3_entryValue_61 ?_
        obtain ⟨v13, hv13, hB⟩ := gB1_some hB
        refine gw_getfN (C := RX9) (T := TX9) (N := 2) (k := 0) gcl2 (by decide) in_X9 q2171 (gfR_spec hv13) dX3_entryValue_63 ?_
        refine gw_iload_n 4 rfl dX3_entryValue_66 ?_
        obtain ⟨v14, hv14, hB⟩ := gB1_some hB
        refine gw_iaload hv14 dX3_entryValue_67 ?_
        refine gw_goto (tgt := 97) dX3_entryValue_68 (by decide) ?_
        exact gw_sub [] rfl (w_X3_entryValue_97  _ _ hB)
theorem w_X3_entryValue_26 {E : gE} {F z0 n0 : Nat} {r : Int32} {s' : gS}   : ∀ (n : Nat) (l0 : Option Nat) (l2 : Int32) (l3 : Int32) (l4 : Option Nat) (l5 : Int32) (l6 : Int32)  (s : gS), f_X3_entryValue_26 (gk E) F  n l0 l2 l3 l4 l5 l6 s = some (r, s') → W_X3_entryValue E z0 n0 r s' 26 [(0, vR l0), (2, vI l2), (3, vI l3), (4, vR l4), (5, vI l5), (6, vI l6)] [] s := by
  intro n
  induction n with
  | zero => intro l0 l2 l3 l4 l5 l6 s hB; cases hB
  | succ n ih => intro l0 l2 l3 l4 l5 l6 s hB; exact w_X3_entryValue_26b ih l0 l2 l3 l4 l5 l6 s hB
noncomputable def f_X3_entryValue_0 (κ : gK) (F : Nat)  (l0 : Option Nat) (l1 : Int32) (l2 : Int32) (s : gS) : Option (Int32 × gS) :=
  gB1 (gck s l0 7) fun _ =>
  gB2 (f_X3_now κ F l0  s) fun v2 s1 =>
  gB1 (gfI s1 v2 4 1) fun v4 =>
  gB1 (gck s1 l0 7) fun _ =>
  gB2 (f_X3_directory κ F l0 v4 s1) fun v6 s5 =>
  gB1 (gfR s5 v6 3 0) fun v8 =>
  gB1 (gal s5 v8) fun v9 =>
  f_X3_entryValue_26 κ F  F l0 l2 l1 v8 v9 (0 : Int32) s5
set_option maxHeartbeats 4000000 in
theorem w_X3_entryValue_0 {E : gE} {F z0 n0 : Nat} {r : Int32} {s' : gS}   : ∀ (l0 : Option Nat) (l1 : Int32) (l2 : Int32)  (s : gS), f_X3_entryValue_0 (gk E) F  l0 l1 l2 s = some (r, s') → W_X3_entryValue E z0 n0 r s' 0 [(0, vR l0), (1, vI l1), (2, vI l2)] [] s := by
  intro l0 l1 l2 s hB
  unfold f_X3_entryValue_0 at hB
  refine gw_iload_n 1 rfl dX3_entryValue_0 ?_
  refine gw_istore_n (L' := [(3, vI l1), (0, vR l0), (1, vI l1), (2, vI l2)]) (Nat.le_of_ble_eq_true rfl) rfl dX3_entryValue_1 ?_
  refine gw_aload_n 1 rfl dX3_entryValue_2 ?_
  refine gw_aload_n 1 rfl dX3_entryValue_3 ?_
  obtain ⟨u0, hu3, hB⟩ := gB1_some hB
  obtain ⟨v2, s1, hv2, hB⟩ := gB2_some hB
  refine gw_callV (y := yX3_now) (lw_V q1302 q1303 q1304 q110 q1305) hdV_X3_now gcl7 hu3 (As := []) (rest := [vR l0]) (m_X3_now _ _ _ _ hv2) (Nat.le_of_ble_eq_true rfl) (Nat.le_of_ble_eq_true rfl) rfl (Nat.le_of_ble_eq_true rfl) dX3_entryValue_4 (gCont_i ?_)
  obtain ⟨v4, hv4, hB⟩ := gB1_some hB
  refine gw_getfN (C := RX4) (T := TX4) (N := 3) (k := 1) gcl4 (by decide) in_X4 q201 (gfI_spec hv4) dX3_entryValue_7 ?_
  obtain ⟨u0, hu7, hB⟩ := gB1_some hB
  obtain ⟨v6, s5, hv6, hB⟩ := gB2_some hB
  refine gw_callV (y := yX3_directory) (lw_V q2041 q2043 qs23 q110 q2044) hdV_X3_directory gcl7 hu7 (As := [vI v4]) (rest := []) (m_X3_directory _ _ _ _ _ hv6) (Nat.le_of_ble_eq_true rfl) (Nat.le_of_ble_eq_true rfl) rfl (Nat.le_of_ble_eq_true rfl) dX3_entryValue_10 (gCont_i ?_)
  obtain ⟨v8, hv8, hB⟩ := gB1_some hB
  refine gw_getfN (C := RX5) (T := TX5) (N := 1) (k := 0) gcl3 (by decide) in_X5 q321 (gfR_spec hv8) dX3_entryValue_13 ?_
  refine gw_astore (L' := [(4, vR v8), (3, vI l1), (0, vR l0), (1, vI l1), (2, vI l2)]) (Nat.le_of_ble_eq_true rfl) rfl dX3_entryValue_16 ?_
  refine gw_aload 0 rfl dX3_entryValue_18 ?_
  obtain ⟨v9, hv9, hB⟩ := gB1_some hB
  refine gw_alen hv9 dX3_entryValue_20 ?_
  refine gw_istore (L' := [(5, vI v9), (4, vR v8), (3, vI l1), (0, vR l0), (1, vI l1), (2, vI l2)]) (Nat.le_of_ble_eq_true rfl) rfl dX3_entryValue_21 ?_
  refine gw_iconst (v := (0 : Int32)) (by decide) dX3_entryValue_23 ?_
  refine gw_istore (L' := [(6, vI (0 : Int32)), (5, vI v9), (4, vR v8), (3, vI l1), (0, vR l0), (1, vI l1), (2, vI l2)]) (Nat.le_of_ble_eq_true rfl) rfl dX3_entryValue_24 ?_
  exact gw_sub [4, 6, 3, 2, 1, 0] rfl (w_X3_entryValue_26  F _ _ _ _ _ _ _ hB)
noncomputable def f_X3_entryValue (κ : gK) (F : Nat) (a0 : Option Nat) (a1 : Int32) (a2 : Int32) (s : gS) : Option (Int32 × gS) := f_X3_entryValue_0 κ F a0 a1 a2 s
theorem m_X3_entryValue {E : gE} {F : Nat} (a0 : Option Nat) (a1 : Int32) (a2 : Int32) (s : gS) (r : Int32) (s' : gS) (h : f_X3_entryValue (gk E) F a0 a1 a2 s = some (r, s')) : gCT E 7 yX3_entryValue (ws_ yX3_entryValue cX3_entryValue 9 (some FieldType.int)) [vR a0, vI a1, vI a2] s (.inl (some (vI r))) s' := by
  refine gCT_of2 (fun h => absurd h (by decide)) (plainFor_of_name (by decide)) (Nat.le_of_ble_eq_true rfl) ?_
  exact gw_sub [0, 1, 2] rfl (w_X3_entryValue_0 _ _ _ _ h)
def dkwX10_init_0 : List UInt8 := [42, 183, 0, 1, 42, 27, 181, 0, 7, 42, 28, 181, 0, 13, 177]
abbrev dktX10_init_0 : List UInt8 := dkwX10_init_0 ++ []
theorem dksX10_init_0 : cX10_init.data.toList.drop 0 = dktX10_init_0 := by decide +kernel
theorem dX10_init_0 : decode cX10_init 0 = .ok (.aload_n 0, 1) := dk_42 (dk_at dksX10_init_0 0 rfl rfl)
theorem dX10_init_1 : decode cX10_init 1 = .ok (.invokespecial 1, 3) := dk_183 0 1 (dk_at dksX10_init_0 1 rfl rfl)
theorem dX10_init_4 : decode cX10_init 4 = .ok (.aload_n 0, 1) := dk_42 (dk_at dksX10_init_0 4 rfl rfl)
theorem dX10_init_5 : decode cX10_init 5 = .ok (.iload_n 1, 1) := dk_27 (dk_at dksX10_init_0 5 rfl rfl)
theorem dX10_init_6 : decode cX10_init 6 = .ok (.putfield 7, 3) := dk_181 0 7 (dk_at dksX10_init_0 6 rfl rfl)
theorem dX10_init_9 : decode cX10_init 9 = .ok (.aload_n 0, 1) := dk_42 (dk_at dksX10_init_0 9 rfl rfl)
theorem dX10_init_10 : decode cX10_init 10 = .ok (.iload_n 2, 1) := dk_28 (dk_at dksX10_init_0 10 rfl rfl)
theorem dX10_init_11 : decode cX10_init 11 = .ok (.putfield 13, 3) := dk_181 0 13 (dk_at dksX10_init_0 11 rfl rfl)
theorem dX10_init_14 : decode cX10_init 14 = .ok (.return_, 1) := dk_177 (dk_at dksX10_init_0 14 rfl rfl)
/-! PageGarden$Reader.<init>(II)V -/
abbrev M_X10_init (z0 n0 : Nat) (s' : gS) : gM := (RX10, cX10_init, 3, none, "<init>", [], 1, z0, n0, s'.2.1, s'.2.2)
abbrev W_X10_init (E : gE) (z0 n0 : Nat) (r : Unit) (s' : gS) (pc : Nat) (L : List (Nat × gV)) (st : List gV) (s : gS) : Prop := gW E (M_X10_init z0 n0 s') (gQm E (M_X10_init z0 n0 s') (.inl none) s') pc L st s
noncomputable def f_X10_init_0 (κ : gK) (F : Nat)  (l0 : Option Nat) (l1 : Int32) (l2 : Int32) (s : gS) : Option (Unit × gS) :=
  gB1 (gsm l0) fun _ =>
  gB1 (gpf κ s l0 5 0 (.int l1)) fun s2 =>
  gB1 (gpf κ s2 l0 5 1 (.int l2)) fun s3 =>
  some ((), s3)
set_option maxHeartbeats 4000000 in
theorem w_X10_init_0 {E : gE} {F z0 n0 : Nat} {r : Unit} {s' : gS}   : ∀ (l0 : Option Nat) (l1 : Int32) (l2 : Int32)  (s : gS), f_X10_init_0 (gk E) F  l0 l1 l2 s = some (r, s') → W_X10_init E z0 n0 r s' 0 [(0, vR l0), (1, vI l1), (2, vI l2)] [] s := by
  intro l0 l1 l2 s hB
  unfold f_X10_init_0 at hB
  refine gw_aload_n 0 rfl dX10_init_0 ?_
  obtain ⟨u0, hu1, hB⟩ := gB1_some hB
  refine gw_objInit (gsm_spec hu1) q2321 q172 q173 (Nat.le_of_ble_eq_true rfl) (Nat.le_of_ble_eq_true rfl) dX10_init_1 ?_
  refine gw_aload_n 0 rfl dX10_init_4 ?_
  refine gw_iload_n 1 rfl dX10_init_5 ?_
  obtain ⟨s2, hs2, hB⟩ := gB1_some hB
  refine gw_putfF (C := RX10) (T := TX10) (N := 2) (k := 0) tyX10 tyX10_ok nmX10 gcl5 (by decide) in_X10 q2322 rfl rfl rfl (tyX10_ok 0 (by decide)) (gNF_i _) hs2 dX10_init_6 ?_
  refine gw_aload_n 0 rfl dX10_init_9 ?_
  refine gw_iload_n 2 rfl dX10_init_10 ?_
  obtain ⟨s3, hs3, hB⟩ := gB1_some hB
  refine gw_putfF (C := RX10) (T := TX10) (N := 2) (k := 1) tyX10 tyX10_ok nmX10 gcl5 (by decide) in_X10 q2324 rfl rfl rfl (tyX10_ok 1 (by decide)) (gNF_i _) hs3 dX10_init_11 ?_
  obtain ⟨rfl, rfl⟩ := Prod.mk.inj (Option.some.inj hB)
  exact gw_vret rfl rfl rfl dX10_init_14
noncomputable def f_X10_init (κ : gK) (F : Nat) (a0 : Option Nat) (a1 : Int32) (a2 : Int32) (s : gS) : Option (Unit × gS) := f_X10_init_0 κ F a0 a1 a2 s
theorem m_X10_init {E : gE} {F : Nat} (a0 : Option Nat) (a1 : Int32) (a2 : Int32) (s : gS) (r : Unit) (s' : gS) (h : f_X10_init (gk E) F a0 a1 a2 s = some (r, s')) : gCT E 1 yX10_init (ws_ yX10_init cX10_init 3 none) [vR a0, vI a1, vI a2] s (.inl none) s' := by
  refine gCT_of2 (fun h => absurd h (by decide)) (plainFor_of_name (by decide)) (Nat.le_of_ble_eq_true rfl) ?_
  exact gw_sub [0, 1, 2] rfl (w_X10_init_0 _ _ _ _ h)
def dkwX3_open_2 : List UInt8 := [182, 0, 155, 180, 0, 149, 42, 182, 0, 155, 180, 0, 223, 183, 1, 109, 83, 27, 172]
abbrev dktX3_open_2 : List UInt8 := dkwX3_open_2 ++ []
def dkwX3_open_1 : List UInt8 := [162, 0, 7, 4, 167, 0, 4, 3, 19, 1, 107, 184, 0, 183, 42, 180, 0, 26, 27, 187, 0, 24, 89, 42]
abbrev dktX3_open_1 : List UInt8 := dkwX3_open_1 ++ dktX3_open_2
def dkwX3_open_0 : List UInt8 := [3, 60, 27, 7, 162, 0, 18, 42, 180, 0, 26, 27, 50, 198, 0, 9, 132, 1, 1, 167, 255, 239, 27, 7]
abbrev dktX3_open_0 : List UInt8 := dkwX3_open_0 ++ dktX3_open_1
theorem dksX3_open_0 : cX3_open.data.toList.drop 0 = dktX3_open_0 := by decide +kernel
theorem dksX3_open_1 : cX3_open.data.toList.drop 24 = dktX3_open_1 := dk_seg dksX3_open_0 24 rfl rfl
theorem dksX3_open_2 : cX3_open.data.toList.drop 48 = dktX3_open_2 := dk_seg dksX3_open_1 24 rfl rfl
theorem dX3_open_0 : decode cX3_open 0 = .ok (.iconst 0, 1) := dk_3 (dk_at dksX3_open_0 0 rfl rfl)
theorem dX3_open_1 : decode cX3_open 1 = .ok (.istore_n 1, 1) := dk_60 (dk_at dksX3_open_0 1 rfl rfl)
theorem dX3_open_2 : decode cX3_open 2 = .ok (.iload_n 1, 1) := dk_27 (dk_at dksX3_open_0 2 rfl rfl)
theorem dX3_open_3 : decode cX3_open 3 = .ok (.iconst 4, 1) := dk_7 (dk_at dksX3_open_0 3 rfl rfl)
theorem dX3_open_4 : decode cX3_open 4 = .ok (.if_icmp .ge 18, 3) := dk_162 0 18 (dk_at dksX3_open_0 4 rfl rfl)
theorem dX3_open_7 : decode cX3_open 7 = .ok (.aload_n 0, 1) := dk_42 (dk_at dksX3_open_0 7 rfl rfl)
theorem dX3_open_8 : decode cX3_open 8 = .ok (.getfield 26, 3) := dk_180 0 26 (dk_at dksX3_open_0 8 rfl rfl)
theorem dX3_open_11 : decode cX3_open 11 = .ok (.iload_n 1, 1) := dk_27 (dk_at dksX3_open_0 11 rfl rfl)
theorem dX3_open_12 : decode cX3_open 12 = .ok (.aaload, 1) := dk_50 (dk_at dksX3_open_0 12 rfl rfl)
theorem dX3_open_13 : decode cX3_open 13 = .ok (.ifnull 9, 3) := dk_198 0 9 (dk_at dksX3_open_0 13 rfl rfl)
theorem dX3_open_16 : decode cX3_open 16 = .ok (.iinc 1 1, 3) := dk_132 1 1 (dk_at dksX3_open_0 16 rfl rfl)
theorem dX3_open_19 : decode cX3_open 19 = .ok (.goto (-17), 3) := dk_167 255 239 (dk_at dksX3_open_0 19 rfl rfl)
theorem dX3_open_22 : decode cX3_open 22 = .ok (.iload_n 1, 1) := dk_27 (dk_at dksX3_open_0 22 rfl rfl)
theorem dX3_open_23 : decode cX3_open 23 = .ok (.iconst 4, 1) := dk_7 (dk_at dksX3_open_0 23 rfl rfl)
theorem dX3_open_24 : decode cX3_open 24 = .ok (.if_icmp .ge 7, 3) := dk_162 0 7 (dk_at dksX3_open_1 0 rfl rfl)
theorem dX3_open_27 : decode cX3_open 27 = .ok (.iconst 1, 1) := dk_4 (dk_at dksX3_open_1 3 rfl rfl)
theorem dX3_open_28 : decode cX3_open 28 = .ok (.goto 4, 3) := dk_167 0 4 (dk_at dksX3_open_1 4 rfl rfl)
theorem dX3_open_31 : decode cX3_open 31 = .ok (.iconst 0, 1) := dk_3 (dk_at dksX3_open_1 7 rfl rfl)
theorem dX3_open_32 : decode cX3_open 32 = .ok (.ldc_w 363, 3) := dk_19 1 107 (dk_at dksX3_open_1 8 rfl rfl)
theorem dX3_open_35 : decode cX3_open 35 = .ok (.invokestatic 183, 3) := dk_184 0 183 (dk_at dksX3_open_1 11 rfl rfl)
theorem dX3_open_38 : decode cX3_open 38 = .ok (.aload_n 0, 1) := dk_42 (dk_at dksX3_open_1 14 rfl rfl)
theorem dX3_open_39 : decode cX3_open 39 = .ok (.getfield 26, 3) := dk_180 0 26 (dk_at dksX3_open_1 15 rfl rfl)
theorem dX3_open_42 : decode cX3_open 42 = .ok (.iload_n 1, 1) := dk_27 (dk_at dksX3_open_1 18 rfl rfl)
theorem dX3_open_43 : decode cX3_open 43 = .ok (.new 24, 3) := dk_187 0 24 (dk_at dksX3_open_1 19 rfl rfl)
theorem dX3_open_46 : decode cX3_open 46 = .ok (.dup, 1) := dk_89 (dk_at dksX3_open_1 22 rfl rfl)
theorem dX3_open_47 : decode cX3_open 47 = .ok (.aload_n 0, 1) := dk_42 (dk_at dksX3_open_1 23 rfl rfl)
theorem dX3_open_48 : decode cX3_open 48 = .ok (.invokevirtual 155, 3) := dk_182 0 155 (dk_at dksX3_open_2 0 rfl rfl)
theorem dX3_open_51 : decode cX3_open 51 = .ok (.getfield 149, 3) := dk_180 0 149 (dk_at dksX3_open_2 3 rfl rfl)
theorem dX3_open_54 : decode cX3_open 54 = .ok (.aload_n 0, 1) := dk_42 (dk_at dksX3_open_2 6 rfl rfl)
theorem dX3_open_55 : decode cX3_open 55 = .ok (.invokevirtual 155, 3) := dk_182 0 155 (dk_at dksX3_open_2 7 rfl rfl)
theorem dX3_open_58 : decode cX3_open 58 = .ok (.getfield 223, 3) := dk_180 0 223 (dk_at dksX3_open_2 10 rfl rfl)
theorem dX3_open_61 : decode cX3_open 61 = .ok (.invokespecial 365, 3) := dk_183 1 109 (dk_at dksX3_open_2 13 rfl rfl)
theorem dX3_open_64 : decode cX3_open 64 = .ok (.aastore, 1) := dk_83 (dk_at dksX3_open_2 16 rfl rfl)
theorem dX3_open_65 : decode cX3_open 65 = .ok (.iload_n 1, 1) := dk_27 (dk_at dksX3_open_2 17 rfl rfl)
theorem dX3_open_66 : decode cX3_open 66 = .ok (.ireturn, 1) := dk_172 (dk_at dksX3_open_2 18 rfl rfl)
/-! PageGarden$Garden.open()I -/
abbrev M_X3_open (z0 n0 : Nat) (s' : gS) : gM := (RX3, cX3_open, 2, (some FieldType.int), "open", [], 10, z0, n0, s'.2.1, s'.2.2)
abbrev W_X3_open (E : gE) (z0 n0 : Nat) (r : (Int32 ⊕ String)) (s' : gS) (pc : Nat) (L : List (Nat × gV)) (st : List gV) (s : gS) : Prop := gW E (M_X3_open z0 n0 s') (gQm E (M_X3_open z0 n0 s') (gOi r) s') pc L st s
noncomputable def f_X3_open_32 (κ : gK) (F : Nat)  (l0 : Option Nat) (l1 : Int32) (t0 : Int32) (s : gS) : Option ((Int32 ⊕ String) × gS) :=
  gB3 (f_X1_requireState κ F t0 (κ.2 36) s) fun v2 s1 =>
  gB1 (gfR s1 l0 7 5) fun v3 =>
  gB2 (gnw s1 5 g0_X10 2) fun v4 s5 =>
  gB1 (gck s5 l0 7) fun _ =>
  gB2 (f_X3_now κ F l0  s5) fun v7 s6 =>
  gB1 (gfI s6 v7 4 0) fun v9 =>
  gB1 (gck s6 l0 7) fun _ =>
  gB2 (f_X3_now κ F l0  s6) fun v11 s10 =>
  gB1 (gfI s10 v11 4 1) fun v13 =>
  gB1 (gsm v4) fun _ =>
  gB2 (f_X10_init κ F v4 v9 v13 s10) fun v15 s14 =>
  gB1 (gsR κ s14 v3 l1 v4) fun s17 =>
  some ((.inl l1), s17)
set_option maxHeartbeats 4000000 in
theorem w_X3_open_32 {E : gE} {F z0 n0 : Nat} {r : (Int32 ⊕ String)} {s' : gS}   : ∀ (l0 : Option Nat) (l1 : Int32) (t0 : Int32) (s : gS), f_X3_open_32 (gk E) F  l0 l1 t0 s = some (r, s') → W_X3_open E z0 n0 r s' 32 [(0, vR l0), (1, vI l1)] [vI t0] s := by
  intro l0 l1 t0 s hB
  unfold f_X3_open_32 at hB
  refine gw_ldcSW (own := "PageGarden$Garden") (tx := "all are open") (i := 36) rfl (by decide) dX3_open_32 ?_
  rcases gB3_some hB with ⟨v2, s1, hv2, hB⟩ | ⟨Cv2, hv2, hzv2⟩
  rotate_left
  · subst hzv2
    exact gw_callSN (y := yX1_requireState) (lw_meth q2017) q108 q2015 q2016 hdS_X1_requireState (As := [vI t0, vR ((gk E).2 36)]) (rest := []) (m_X1_requireState _ _ _ _ _ hv2) (Nat.le_of_ble_eq_true rfl) (Nat.le_of_ble_eq_true rfl) rfl (Nat.le_of_ble_eq_true rfl) dX3_open_35 (gCont_x (gx_out rfl rfl rfl))
  refine gw_callSN (y := yX1_requireState) (lw_meth q2017) q108 q2015 q2016 hdS_X1_requireState (As := [vI t0, vR ((gk E).2 36)]) (rest := []) (m_X1_requireState _ _ _ _ _ hv2) (Nat.le_of_ble_eq_true rfl) (Nat.le_of_ble_eq_true rfl) rfl (Nat.le_of_ble_eq_true rfl) dX3_open_35 (gCont_v ?_)
  refine gw_aload_n 0 rfl dX3_open_38 ?_
  obtain ⟨v3, hv3, hB⟩ := gB1_some hB
  refine gw_getf (C := RX3) (T := TX3) (N := 9) (k := 5) gcl7 (by decide) in_X3 q287 (gfR_spec hv3) dX3_open_39 ?_
  refine gw_iload_n 1 rfl dX3_open_42 ?_
  obtain ⟨v4, s5, hv4, hB⟩ := gB2_some hB
  refine gw_new (C := RX10) (T := TX10) (N := 2) tyX10 tyX10_ok gcl5 in_X10 q277 q2317 q161 g0_X10_ok hv4 dX3_open_43 ?_
  refine gw_dup rfl dX3_open_46 ?_
  refine gw_aload_n 0 rfl dX3_open_47 ?_
  obtain ⟨u0, hu8, hB⟩ := gB1_some hB
  obtain ⟨v7, s6, hv7, hB⟩ := gB2_some hB
  refine gw_callV (y := yX3_now) (lw_V q1302 q1303 q1304 q110 q1305) hdV_X3_now gcl7 hu8 (As := []) (rest := [vR v4, vR v4, vI l1, vR v3]) (m_X3_now _ _ _ _ hv7) (Nat.le_of_ble_eq_true rfl) (Nat.le_of_ble_eq_true rfl) rfl (Nat.le_of_ble_eq_true rfl) dX3_open_48 (gCont_i ?_)
  obtain ⟨v9, hv9, hB⟩ := gB1_some hB
  refine gw_getfN (C := RX4) (T := TX4) (N := 3) (k := 0) gcl4 (by decide) in_X4 q199 (gfI_spec hv9) dX3_open_51 ?_
  refine gw_aload_n 0 rfl dX3_open_54 ?_
  obtain ⟨u0, hu12, hB⟩ := gB1_some hB
  obtain ⟨v11, s10, hv11, hB⟩ := gB2_some hB
  refine gw_callV (y := yX3_now) (lw_V q1302 q1303 q1304 q110 q1305) hdV_X3_now gcl7 hu12 (As := []) (rest := [vI v9, vR v4, vR v4, vI l1, vR v3]) (m_X3_now _ _ _ _ hv11) (Nat.le_of_ble_eq_true rfl) (Nat.le_of_ble_eq_true rfl) rfl (Nat.le_of_ble_eq_true rfl) dX3_open_55 (gCont_i ?_)
  obtain ⟨v13, hv13, hB⟩ := gB1_some hB
  refine gw_getfN (C := RX4) (T := TX4) (N := 3) (k := 1) gcl4 (by decide) in_X4 q201 (gfI_spec hv13) dX3_open_58 ?_
  obtain ⟨u0, hu16, hB⟩ := gB1_some hB
  obtain ⟨v15, s14, hv15, hB⟩ := gB2_some hB
  refine gw_callI (y := yX10_init) (lw_meth q2320) q161 q2318 q2319 rfl hdS_X10_init (gsm_spec hu16) (As := [vI v9, vI v13]) (rest := [vR v4, vI l1, vR v3]) (m_X10_init _ _ _ _ _ _ hv15) (Nat.le_of_ble_eq_true rfl) (Nat.le_of_ble_eq_true rfl) rfl (Nat.le_of_ble_eq_true rfl) dX3_open_61 (gCont_v ?_)
  obtain ⟨s17, hs17, hB⟩ := gB1_some hB
  refine gw_aastore hs17 dX3_open_64 ?_
  refine gw_iload_n 1 rfl dX3_open_65 ?_
  obtain ⟨rfl, rfl⟩ := Prod.mk.inj (Option.some.inj hB)
  exact gw_iret rfl rfl rfl dX3_open_66
noncomputable def f_X3_open_22 (κ : gK) (F : Nat)  (l0 : Option Nat) (l1 : Int32) (s : gS) : Option ((Int32 ⊕ String) × gS) :=
  if (4 : Int32) ≤ l1 then
    f_X3_open_32 κ F  l0 l1 (0 : Int32) s
  else
    f_X3_open_32 κ F  l0 l1 (1 : Int32) s
set_option maxHeartbeats 4000000 in
theorem w_X3_open_22 {E : gE} {F z0 n0 : Nat} {r : (Int32 ⊕ String)} {s' : gS}   : ∀ (l0 : Option Nat) (l1 : Int32)  (s : gS), f_X3_open_22 (gk E) F  l0 l1 s = some (r, s') → W_X3_open E z0 n0 r s' 22 [(0, vR l0), (1, vI l1)] [] s := by
  intro l0 l1 s hB
  unfold f_X3_open_22 at hB
  refine gw_iload_n 1 rfl dX3_open_22 ?_
  refine gw_iconst (v := (4 : Int32)) (by decide) dX3_open_23 ?_
  refine gw_icmp_ge (tgt := 31) dX3_open_24 (by decide) (fun hcnd => ?_) (fun hcnd => ?_)
  · rw [if_pos hcnd] at hB
    refine gw_iconst (v := (0 : Int32)) (by decide) dX3_open_31 ?_
    exact gw_sub [0, 1] rfl (w_X3_open_32  _ _ _ _ hB)
  · rw [if_neg hcnd] at hB
    refine gw_iconst (v := (1 : Int32)) (by decide) dX3_open_27 ?_
    refine gw_goto (tgt := 32) dX3_open_28 (by decide) ?_
    exact gw_sub [0, 1] rfl (w_X3_open_32  _ _ _ _ hB)
noncomputable def f_X3_open_2b (κ : gK) (F : Nat) (k2 : Option Nat → Int32 → gS → Option ((Int32 ⊕ String) × gS)) (l0 : Option Nat) (l1 : Int32) (s : gS) : Option ((Int32 ⊕ String) × gS) :=
  if (4 : Int32) ≤ l1 then
    f_X3_open_22 κ F  l0 l1 s
  else
    gB1 (gfR s l0 7 5) fun v1 =>
    gB1 (gaR s v1 l1) fun v2 =>
    if v2 = none then
      f_X3_open_22 κ F  l0 l1 s
    else
      k2 l0 (l1 + (1 : Int32)) s
noncomputable def f_X3_open_2 (κ : gK) (F : Nat)  : Nat → Option Nat → Int32 → gS → Option ((Int32 ⊕ String) × gS)
  | 0 => fun _ _ _ => none
  | n + 1 => f_X3_open_2b κ F  (f_X3_open_2 κ F  n)
set_option maxHeartbeats 4000000 in
theorem w_X3_open_2b {E : gE} {F z0 n0 : Nat} {r : (Int32 ⊕ String)} {s' : gS} {k2 : Option Nat → Int32 → gS → Option ((Int32 ⊕ String) × gS)} (hk2 : ∀ (l0 : Option Nat) (l1 : Int32) (s : gS), k2 l0 l1 s = some (r, s') → W_X3_open E z0 n0 r s' 2 [(0, vR l0), (1, vI l1)] [] s) : ∀ (l0 : Option Nat) (l1 : Int32)  (s : gS), f_X3_open_2b (gk E) F k2 l0 l1 s = some (r, s') → W_X3_open E z0 n0 r s' 2 [(0, vR l0), (1, vI l1)] [] s := by
  intro l0 l1 s hB
  unfold f_X3_open_2b at hB
  refine gw_iload_n 1 rfl dX3_open_2 ?_
  refine gw_iconst (v := (4 : Int32)) (by decide) dX3_open_3 ?_
  refine gw_icmp_ge (tgt := 22) dX3_open_4 (by decide) (fun hcnd => ?_) (fun hcnd => ?_)
  · rw [if_pos hcnd] at hB
    exact gw_sub [0, 1] rfl (w_X3_open_22  _ _ _ hB)
  · rw [if_neg hcnd] at hB
    refine gw_aload_n 0 rfl dX3_open_7 ?_
    obtain ⟨v1, hv1, hB⟩ := gB1_some hB
    refine gw_getf (C := RX3) (T := TX3) (N := 9) (k := 5) gcl7 (by decide) in_X3 q287 (gfR_spec hv1) dX3_open_8 ?_
    refine gw_iload_n 1 rfl dX3_open_11 ?_
    obtain ⟨v2, hv2, hB⟩ := gB1_some hB
    refine gw_aaload hv2 dX3_open_12 ?_
    refine gw_ifnull (tgt := 22) dX3_open_13 (by decide) (fun hcnd => ?_) (fun hcnd => ?_)
    · rw [if_pos hcnd] at hB
      exact gw_sub [0, 1] rfl (w_X3_open_22  _ _ _ hB)
    · rw [if_neg hcnd] at hB
      refine gw_iinc (w := (1 : Int32)) (L' := [(1, vI (l1 + (1 : Int32))), (0, vR l0)]) 1 rfl (by decide) (Nat.le_of_ble_eq_true rfl) rfl dX3_open_16 ?_
      refine gw_goto (tgt := 2) dX3_open_19 (by decide) ?_
      exact gw_sub [1, 0] rfl (hk2 _ _ _ hB)
theorem w_X3_open_2 {E : gE} {F z0 n0 : Nat} {r : (Int32 ⊕ String)} {s' : gS}   : ∀ (n : Nat) (l0 : Option Nat) (l1 : Int32)  (s : gS), f_X3_open_2 (gk E) F  n l0 l1 s = some (r, s') → W_X3_open E z0 n0 r s' 2 [(0, vR l0), (1, vI l1)] [] s := by
  intro n
  induction n with
  | zero => intro l0 l1 s hB; cases hB
  | succ n ih => intro l0 l1 s hB; exact w_X3_open_2b ih l0 l1 s hB
noncomputable def f_X3_open_0 (κ : gK) (F : Nat)  (l0 : Option Nat) (s : gS) : Option ((Int32 ⊕ String) × gS) :=
  f_X3_open_2 κ F  F l0 (0 : Int32) s
set_option maxHeartbeats 4000000 in
theorem w_X3_open_0 {E : gE} {F z0 n0 : Nat} {r : (Int32 ⊕ String)} {s' : gS}   : ∀ (l0 : Option Nat)  (s : gS), f_X3_open_0 (gk E) F  l0 s = some (r, s') → W_X3_open E z0 n0 r s' 0 [(0, vR l0)] [] s := by
  intro l0 s hB
  unfold f_X3_open_0 at hB
  refine gw_iconst (v := (0 : Int32)) (by decide) dX3_open_0 ?_
  refine gw_istore_n (L' := [(1, vI (0 : Int32)), (0, vR l0)]) (Nat.le_of_ble_eq_true rfl) rfl dX3_open_1 ?_
  exact gw_sub [1, 0] rfl (w_X3_open_2  F _ _ _ hB)
noncomputable def f_X3_open (κ : gK) (F : Nat) (a0 : Option Nat) (s : gS) : Option ((Int32 ⊕ String) × gS) := f_X3_open_0 κ F a0 s
theorem m_X3_open {E : gE} {F : Nat} (a0 : Option Nat) (s : gS) (r : (Int32 ⊕ String)) (s' : gS) (h : f_X3_open (gk E) F a0 s = some (r, s')) : gCT E 10 yX3_open (ws_ yX3_open cX3_open 2 (some FieldType.int)) [vR a0] s (gOi r) s' := by
  refine gCT_of2 (fun h => absurd h (by decide)) (plainFor_of_name (by decide)) (Nat.le_of_ble_eq_true rfl) ?_
  exact gw_sub [0] rfl (w_X3_open_0 _ _ h)
def dkwX3_openReaders_1 : List UInt8 := [58, 5, 27, 25, 5, 199, 0, 7, 3, 167, 0, 4, 4, 96, 60, 132, 4, 1, 167, 255, 228, 27, 172]
abbrev dktX3_openReaders_1 : List UInt8 := dkwX3_openReaders_1 ++ []
def dkwX3_openReaders_0 : List UInt8 := [3, 60, 42, 180, 0, 26, 77, 44, 190, 62, 3, 54, 4, 21, 4, 29, 162, 0, 28, 44, 21, 4, 50]
abbrev dktX3_openReaders_0 : List UInt8 := dkwX3_openReaders_0 ++ dktX3_openReaders_1
theorem dksX3_openReaders_0 : cX3_openReaders.data.toList.drop 0 = dktX3_openReaders_0 := by decide +kernel
theorem dksX3_openReaders_1 : cX3_openReaders.data.toList.drop 23 = dktX3_openReaders_1 := dk_seg dksX3_openReaders_0 23 rfl rfl
theorem dX3_openReaders_0 : decode cX3_openReaders 0 = .ok (.iconst 0, 1) := dk_3 (dk_at dksX3_openReaders_0 0 rfl rfl)
theorem dX3_openReaders_1 : decode cX3_openReaders 1 = .ok (.istore_n 1, 1) := dk_60 (dk_at dksX3_openReaders_0 1 rfl rfl)
theorem dX3_openReaders_2 : decode cX3_openReaders 2 = .ok (.aload_n 0, 1) := dk_42 (dk_at dksX3_openReaders_0 2 rfl rfl)
theorem dX3_openReaders_3 : decode cX3_openReaders 3 = .ok (.getfield 26, 3) := dk_180 0 26 (dk_at dksX3_openReaders_0 3 rfl rfl)
theorem dX3_openReaders_6 : decode cX3_openReaders 6 = .ok (.astore_n 2, 1) := dk_77 (dk_at dksX3_openReaders_0 6 rfl rfl)
theorem dX3_openReaders_7 : decode cX3_openReaders 7 = .ok (.aload_n 2, 1) := dk_44 (dk_at dksX3_openReaders_0 7 rfl rfl)
theorem dX3_openReaders_8 : decode cX3_openReaders 8 = .ok (.arraylength, 1) := dk_190 (dk_at dksX3_openReaders_0 8 rfl rfl)
theorem dX3_openReaders_9 : decode cX3_openReaders 9 = .ok (.istore_n 3, 1) := dk_62 (dk_at dksX3_openReaders_0 9 rfl rfl)
theorem dX3_openReaders_10 : decode cX3_openReaders 10 = .ok (.iconst 0, 1) := dk_3 (dk_at dksX3_openReaders_0 10 rfl rfl)
theorem dX3_openReaders_11 : decode cX3_openReaders 11 = .ok (.istore 4, 2) := dk_54 4 (dk_at dksX3_openReaders_0 11 rfl rfl)
theorem dX3_openReaders_13 : decode cX3_openReaders 13 = .ok (.iload 4, 2) := dk_21 4 (dk_at dksX3_openReaders_0 13 rfl rfl)
theorem dX3_openReaders_15 : decode cX3_openReaders 15 = .ok (.iload_n 3, 1) := dk_29 (dk_at dksX3_openReaders_0 15 rfl rfl)
theorem dX3_openReaders_16 : decode cX3_openReaders 16 = .ok (.if_icmp .ge 28, 3) := dk_162 0 28 (dk_at dksX3_openReaders_0 16 rfl rfl)
theorem dX3_openReaders_19 : decode cX3_openReaders 19 = .ok (.aload_n 2, 1) := dk_44 (dk_at dksX3_openReaders_0 19 rfl rfl)
theorem dX3_openReaders_20 : decode cX3_openReaders 20 = .ok (.iload 4, 2) := dk_21 4 (dk_at dksX3_openReaders_0 20 rfl rfl)
theorem dX3_openReaders_22 : decode cX3_openReaders 22 = .ok (.aaload, 1) := dk_50 (dk_at dksX3_openReaders_0 22 rfl rfl)
theorem dX3_openReaders_23 : decode cX3_openReaders 23 = .ok (.astore 5, 2) := dk_58 5 (dk_at dksX3_openReaders_1 0 rfl rfl)
theorem dX3_openReaders_25 : decode cX3_openReaders 25 = .ok (.iload_n 1, 1) := dk_27 (dk_at dksX3_openReaders_1 2 rfl rfl)
theorem dX3_openReaders_26 : decode cX3_openReaders 26 = .ok (.aload 5, 2) := dk_25 5 (dk_at dksX3_openReaders_1 3 rfl rfl)
theorem dX3_openReaders_28 : decode cX3_openReaders 28 = .ok (.ifnonnull 7, 3) := dk_199 0 7 (dk_at dksX3_openReaders_1 5 rfl rfl)
theorem dX3_openReaders_31 : decode cX3_openReaders 31 = .ok (.iconst 0, 1) := dk_3 (dk_at dksX3_openReaders_1 8 rfl rfl)
theorem dX3_openReaders_32 : decode cX3_openReaders 32 = .ok (.goto 4, 3) := dk_167 0 4 (dk_at dksX3_openReaders_1 9 rfl rfl)
theorem dX3_openReaders_35 : decode cX3_openReaders 35 = .ok (.iconst 1, 1) := dk_4 (dk_at dksX3_openReaders_1 12 rfl rfl)
theorem dX3_openReaders_36 : decode cX3_openReaders 36 = .ok (.iadd, 1) := dk_96 (dk_at dksX3_openReaders_1 13 rfl rfl)
theorem dX3_openReaders_37 : decode cX3_openReaders 37 = .ok (.istore_n 1, 1) := dk_60 (dk_at dksX3_openReaders_1 14 rfl rfl)
theorem dX3_openReaders_38 : decode cX3_openReaders 38 = .ok (.iinc 4 1, 3) := dk_132 4 1 (dk_at dksX3_openReaders_1 15 rfl rfl)
theorem dX3_openReaders_41 : decode cX3_openReaders 41 = .ok (.goto (-28), 3) := dk_167 255 228 (dk_at dksX3_openReaders_1 18 rfl rfl)
theorem dX3_openReaders_44 : decode cX3_openReaders 44 = .ok (.iload_n 1, 1) := dk_27 (dk_at dksX3_openReaders_1 21 rfl rfl)
theorem dX3_openReaders_45 : decode cX3_openReaders 45 = .ok (.ireturn, 1) := dk_172 (dk_at dksX3_openReaders_1 22 rfl rfl)
/-! PageGarden$Garden.openReaders()I -/
abbrev M_X3_openReaders (z0 n0 : Nat) (s' : gS) : gM := (RX3, cX3_openReaders, 6, (some FieldType.int), "openReaders", [], 1, z0, n0, s'.2.1, s'.2.2)
abbrev W_X3_openReaders (E : gE) (z0 n0 : Nat) (r : Int32) (s' : gS) (pc : Nat) (L : List (Nat × gV)) (st : List gV) (s : gS) : Prop := gW E (M_X3_openReaders z0 n0 s') (gQm E (M_X3_openReaders z0 n0 s') (.inl (some (vI r))) s') pc L st s
noncomputable def f_X3_openReaders_36 (κ : gK) (F : Nat) (k13 : Int32 → Option Nat → Int32 → Int32 → gS → Option (Int32 × gS)) (l2 : Option Nat) (l3 : Int32) (l4 : Int32) (t0 : Int32) (t1 : Int32) (s : gS) : Option (Int32 × gS) :=
  k13 (t0 + t1) l2 l3 (l4 + (1 : Int32)) s
set_option maxHeartbeats 4000000 in
theorem w_X3_openReaders_36 {E : gE} {F z0 n0 : Nat} {r : Int32} {s' : gS} {k13 : Int32 → Option Nat → Int32 → Int32 → gS → Option (Int32 × gS)} (hk13 : ∀ (l1 : Int32) (l2 : Option Nat) (l3 : Int32) (l4 : Int32) (s : gS), k13 l1 l2 l3 l4 s = some (r, s') → W_X3_openReaders E z0 n0 r s' 13 [(1, vI l1), (2, vR l2), (3, vI l3), (4, vI l4)] [] s) : ∀ (l2 : Option Nat) (l3 : Int32) (l4 : Int32) (t0 : Int32) (t1 : Int32) (s : gS), f_X3_openReaders_36 (gk E) F k13 l2 l3 l4 t0 t1 s = some (r, s') → W_X3_openReaders E z0 n0 r s' 36 [(2, vR l2), (3, vI l3), (4, vI l4)] [vI t1, vI t0] s := by
  intro l2 l3 l4 t0 t1 s hB
  unfold f_X3_openReaders_36 at hB
  refine gw_iadd dX3_openReaders_36 ?_
  refine gw_istore_n (L' := [(1, vI (t0 + t1)), (2, vR l2), (3, vI l3), (4, vI l4)]) (Nat.le_of_ble_eq_true rfl) rfl dX3_openReaders_37 ?_
  refine gw_iinc (w := (1 : Int32)) (L' := [(4, vI (l4 + (1 : Int32))), (1, vI (t0 + t1)), (2, vR l2), (3, vI l3)]) 3 rfl (by decide) (Nat.le_of_ble_eq_true rfl) rfl dX3_openReaders_38 ?_
  refine gw_goto (tgt := 13) dX3_openReaders_41 (by decide) ?_
  exact gw_sub [1, 2, 3, 0] rfl (hk13 _ _ _ _ _ hB)
noncomputable def f_X3_openReaders_13b (κ : gK) (F : Nat) (k13 : Int32 → Option Nat → Int32 → Int32 → gS → Option (Int32 × gS)) (l1 : Int32) (l2 : Option Nat) (l3 : Int32) (l4 : Int32) (s : gS) : Option (Int32 × gS) :=
  if l3 ≤ l4 then
    some (l1, s)
  else
    gB1 (gaR s l2 l4) fun v1 =>
    if v1 = none then
      f_X3_openReaders_36 κ F k13 l2 l3 l4 l1 (0 : Int32) s
    else
      f_X3_openReaders_36 κ F k13 l2 l3 l4 l1 (1 : Int32) s
noncomputable def f_X3_openReaders_13 (κ : gK) (F : Nat)  : Nat → Int32 → Option Nat → Int32 → Int32 → gS → Option (Int32 × gS)
  | 0 => fun _ _ _ _ _ => none
  | n + 1 => f_X3_openReaders_13b κ F  (f_X3_openReaders_13 κ F  n)
set_option maxHeartbeats 4000000 in
theorem w_X3_openReaders_13b {E : gE} {F z0 n0 : Nat} {r : Int32} {s' : gS} {k13 : Int32 → Option Nat → Int32 → Int32 → gS → Option (Int32 × gS)} (hk13 : ∀ (l1 : Int32) (l2 : Option Nat) (l3 : Int32) (l4 : Int32) (s : gS), k13 l1 l2 l3 l4 s = some (r, s') → W_X3_openReaders E z0 n0 r s' 13 [(1, vI l1), (2, vR l2), (3, vI l3), (4, vI l4)] [] s) : ∀ (l1 : Int32) (l2 : Option Nat) (l3 : Int32) (l4 : Int32)  (s : gS), f_X3_openReaders_13b (gk E) F k13 l1 l2 l3 l4 s = some (r, s') → W_X3_openReaders E z0 n0 r s' 13 [(1, vI l1), (2, vR l2), (3, vI l3), (4, vI l4)] [] s := by
  intro l1 l2 l3 l4 s hB
  unfold f_X3_openReaders_13b at hB
  refine gw_iload 3 rfl dX3_openReaders_13 ?_
  refine gw_iload_n 2 rfl dX3_openReaders_15 ?_
  refine gw_icmp_ge (tgt := 44) dX3_openReaders_16 (by decide) (fun hcnd => ?_) (fun hcnd => ?_)
  · rw [if_pos hcnd] at hB
    refine gw_iload_n 0 rfl dX3_openReaders_44 ?_
    obtain ⟨rfl, rfl⟩ := Prod.mk.inj (Option.some.inj hB)
    exact gw_iret rfl rfl rfl dX3_openReaders_45
  · rw [if_neg hcnd] at hB
    refine gw_aload_n 1 rfl dX3_openReaders_19 ?_
    refine gw_iload 3 rfl dX3_openReaders_20 ?_
    obtain ⟨v1, hv1, hB⟩ := gB1_some hB
    refine gw_aaload hv1 dX3_openReaders_22 ?_
    refine gw_astore (L' := [(5, vR v1), (1, vI l1), (2, vR l2), (3, vI l3), (4, vI l4)]) (Nat.le_of_ble_eq_true rfl) rfl dX3_openReaders_23 ?_
    refine gw_iload_n 1 rfl dX3_openReaders_25 ?_
    refine gw_aload 0 rfl dX3_openReaders_26 ?_
    refine gw_ifnonnull (tgt := 35) dX3_openReaders_28 (by decide) (fun hcnd => ?_) (fun hcnd => ?_)
    · rw [if_neg hcnd] at hB
      refine gw_iconst (v := (1 : Int32)) (by decide) dX3_openReaders_35 ?_
      exact gw_sub [2, 3, 4] rfl (w_X3_openReaders_36 hk13 _ _ _ _ _ _ hB)
    · rw [if_pos hcnd] at hB
      refine gw_iconst (v := (0 : Int32)) (by decide) dX3_openReaders_31 ?_
      refine gw_goto (tgt := 36) dX3_openReaders_32 (by decide) ?_
      exact gw_sub [2, 3, 4] rfl (w_X3_openReaders_36 hk13 _ _ _ _ _ _ hB)
theorem w_X3_openReaders_13 {E : gE} {F z0 n0 : Nat} {r : Int32} {s' : gS}   : ∀ (n : Nat) (l1 : Int32) (l2 : Option Nat) (l3 : Int32) (l4 : Int32)  (s : gS), f_X3_openReaders_13 (gk E) F  n l1 l2 l3 l4 s = some (r, s') → W_X3_openReaders E z0 n0 r s' 13 [(1, vI l1), (2, vR l2), (3, vI l3), (4, vI l4)] [] s := by
  intro n
  induction n with
  | zero => intro l1 l2 l3 l4 s hB; cases hB
  | succ n ih => intro l1 l2 l3 l4 s hB; exact w_X3_openReaders_13b ih l1 l2 l3 l4 s hB
noncomputable def f_X3_openReaders_0 (κ : gK) (F : Nat)  (l0 : Option Nat) (s : gS) : Option (Int32 × gS) :=
  gB1 (gfR s l0 7 5) fun v1 =>
  gB1 (gal s v1) fun v2 =>
  f_X3_openReaders_13 κ F  F (0 : Int32) v1 v2 (0 : Int32) s
set_option maxHeartbeats 4000000 in
theorem w_X3_openReaders_0 {E : gE} {F z0 n0 : Nat} {r : Int32} {s' : gS}   : ∀ (l0 : Option Nat)  (s : gS), f_X3_openReaders_0 (gk E) F  l0 s = some (r, s') → W_X3_openReaders E z0 n0 r s' 0 [(0, vR l0)] [] s := by
  intro l0 s hB
  unfold f_X3_openReaders_0 at hB
  refine gw_iconst (v := (0 : Int32)) (by decide) dX3_openReaders_0 ?_
  refine gw_istore_n (L' := [(1, vI (0 : Int32)), (0, vR l0)]) (Nat.le_of_ble_eq_true rfl) rfl dX3_openReaders_1 ?_
  refine gw_aload_n 1 rfl dX3_openReaders_2 ?_
  obtain ⟨v1, hv1, hB⟩ := gB1_some hB
  refine gw_getf (C := RX3) (T := TX3) (N := 9) (k := 5) gcl7 (by decide) in_X3 q287 (gfR_spec hv1) dX3_openReaders_3 ?_
  refine gw_astore_n (L' := [(2, vR v1), (1, vI (0 : Int32)), (0, vR l0)]) (Nat.le_of_ble_eq_true rfl) rfl dX3_openReaders_6 ?_
  refine gw_aload_n 0 rfl dX3_openReaders_7 ?_
  obtain ⟨v2, hv2, hB⟩ := gB1_some hB
  refine gw_alen hv2 dX3_openReaders_8 ?_
  refine gw_istore_n (L' := [(3, vI v2), (2, vR v1), (1, vI (0 : Int32)), (0, vR l0)]) (Nat.le_of_ble_eq_true rfl) rfl dX3_openReaders_9 ?_
  refine gw_iconst (v := (0 : Int32)) (by decide) dX3_openReaders_10 ?_
  refine gw_istore (L' := [(4, vI (0 : Int32)), (3, vI v2), (2, vR v1), (1, vI (0 : Int32)), (0, vR l0)]) (Nat.le_of_ble_eq_true rfl) rfl dX3_openReaders_11 ?_
  exact gw_sub [3, 2, 1, 0] rfl (w_X3_openReaders_13  F _ _ _ _ _ hB)
noncomputable def f_X3_openReaders (κ : gK) (F : Nat) (a0 : Option Nat) (s : gS) : Option (Int32 × gS) := f_X3_openReaders_0 κ F a0 s
theorem m_X3_openReaders {E : gE} {F : Nat} (a0 : Option Nat) (s : gS) (r : Int32) (s' : gS) (h : f_X3_openReaders (gk E) F a0 s = some (r, s')) : gCT E 1 yX3_openReaders (ws_ yX3_openReaders cX3_openReaders 6 (some FieldType.int)) [vR a0] s (.inl (some (vI r))) s' := by
  refine gCT_of2 (fun h => absurd h (by decide)) (plainFor_of_name (by decide)) (Nat.le_of_ble_eq_true rfl) ?_
  exact gw_sub [0] rfl (w_X3_openReaders_0 _ _ h)
def dkwX3_ownDirectory_2 : List UInt8 := [181, 0, 230, 42, 28, 182, 0, 238, 43, 176]
abbrev dktX3_ownDirectory_2 : List UInt8 := dkwX3_ownDirectory_2 ++ []
def dkwX3_ownDirectory_1 : List UInt8 := [182, 0, 207, 154, 0, 28, 42, 180, 0, 80, 180, 0, 230, 61, 42, 180, 0, 80, 42, 43, 182, 0, 234]
abbrev dktX3_ownDirectory_1 : List UInt8 := dkwX3_ownDirectory_1 ++ dktX3_ownDirectory_2
def dkwX3_ownDirectory_0 : List UInt8 := [42, 42, 180, 0, 80, 180, 0, 230, 182, 0, 123, 76, 42, 180, 0, 80, 42, 180, 0, 80, 180, 0, 230]
abbrev dktX3_ownDirectory_0 : List UInt8 := dkwX3_ownDirectory_0 ++ dktX3_ownDirectory_1
theorem dksX3_ownDirectory_0 : cX3_ownDirectory.data.toList.drop 0 = dktX3_ownDirectory_0 := by decide +kernel
theorem dksX3_ownDirectory_1 : cX3_ownDirectory.data.toList.drop 23 = dktX3_ownDirectory_1 := dk_seg dksX3_ownDirectory_0 23 rfl rfl
theorem dksX3_ownDirectory_2 : cX3_ownDirectory.data.toList.drop 46 = dktX3_ownDirectory_2 := dk_seg dksX3_ownDirectory_1 23 rfl rfl
theorem dX3_ownDirectory_0 : decode cX3_ownDirectory 0 = .ok (.aload_n 0, 1) := dk_42 (dk_at dksX3_ownDirectory_0 0 rfl rfl)
theorem dX3_ownDirectory_1 : decode cX3_ownDirectory 1 = .ok (.aload_n 0, 1) := dk_42 (dk_at dksX3_ownDirectory_0 1 rfl rfl)
theorem dX3_ownDirectory_2 : decode cX3_ownDirectory 2 = .ok (.getfield 80, 3) := dk_180 0 80 (dk_at dksX3_ownDirectory_0 2 rfl rfl)
theorem dX3_ownDirectory_5 : decode cX3_ownDirectory 5 = .ok (.getfield 230, 3) := dk_180 0 230 (dk_at dksX3_ownDirectory_0 5 rfl rfl)
theorem dX3_ownDirectory_8 : decode cX3_ownDirectory 8 = .ok (.invokevirtual 123, 3) := dk_182 0 123 (dk_at dksX3_ownDirectory_0 8 rfl rfl)
theorem dX3_ownDirectory_11 : decode cX3_ownDirectory 11 = .ok (.astore_n 1, 1) := dk_76 (dk_at dksX3_ownDirectory_0 11 rfl rfl)
theorem dX3_ownDirectory_12 : decode cX3_ownDirectory 12 = .ok (.aload_n 0, 1) := dk_42 (dk_at dksX3_ownDirectory_0 12 rfl rfl)
theorem dX3_ownDirectory_13 : decode cX3_ownDirectory 13 = .ok (.getfield 80, 3) := dk_180 0 80 (dk_at dksX3_ownDirectory_0 13 rfl rfl)
theorem dX3_ownDirectory_16 : decode cX3_ownDirectory 16 = .ok (.aload_n 0, 1) := dk_42 (dk_at dksX3_ownDirectory_0 16 rfl rfl)
theorem dX3_ownDirectory_17 : decode cX3_ownDirectory 17 = .ok (.getfield 80, 3) := dk_180 0 80 (dk_at dksX3_ownDirectory_0 17 rfl rfl)
theorem dX3_ownDirectory_20 : decode cX3_ownDirectory 20 = .ok (.getfield 230, 3) := dk_180 0 230 (dk_at dksX3_ownDirectory_0 20 rfl rfl)
theorem dX3_ownDirectory_23 : decode cX3_ownDirectory 23 = .ok (.invokevirtual 207, 3) := dk_182 0 207 (dk_at dksX3_ownDirectory_1 0 rfl rfl)
theorem dX3_ownDirectory_26 : decode cX3_ownDirectory 26 = .ok (.ifCond .ne 28, 3) := dk_154 0 28 (dk_at dksX3_ownDirectory_1 3 rfl rfl)
theorem dX3_ownDirectory_29 : decode cX3_ownDirectory 29 = .ok (.aload_n 0, 1) := dk_42 (dk_at dksX3_ownDirectory_1 6 rfl rfl)
theorem dX3_ownDirectory_30 : decode cX3_ownDirectory 30 = .ok (.getfield 80, 3) := dk_180 0 80 (dk_at dksX3_ownDirectory_1 7 rfl rfl)
theorem dX3_ownDirectory_33 : decode cX3_ownDirectory 33 = .ok (.getfield 230, 3) := dk_180 0 230 (dk_at dksX3_ownDirectory_1 10 rfl rfl)
theorem dX3_ownDirectory_36 : decode cX3_ownDirectory 36 = .ok (.istore_n 2, 1) := dk_61 (dk_at dksX3_ownDirectory_1 13 rfl rfl)
theorem dX3_ownDirectory_37 : decode cX3_ownDirectory 37 = .ok (.aload_n 0, 1) := dk_42 (dk_at dksX3_ownDirectory_1 14 rfl rfl)
theorem dX3_ownDirectory_38 : decode cX3_ownDirectory 38 = .ok (.getfield 80, 3) := dk_180 0 80 (dk_at dksX3_ownDirectory_1 15 rfl rfl)
theorem dX3_ownDirectory_41 : decode cX3_ownDirectory 41 = .ok (.aload_n 0, 1) := dk_42 (dk_at dksX3_ownDirectory_1 18 rfl rfl)
theorem dX3_ownDirectory_42 : decode cX3_ownDirectory 42 = .ok (.aload_n 1, 1) := dk_43 (dk_at dksX3_ownDirectory_1 19 rfl rfl)
theorem dX3_ownDirectory_43 : decode cX3_ownDirectory 43 = .ok (.invokevirtual 234, 3) := dk_182 0 234 (dk_at dksX3_ownDirectory_1 20 rfl rfl)
theorem dX3_ownDirectory_46 : decode cX3_ownDirectory 46 = .ok (.putfield 230, 3) := dk_181 0 230 (dk_at dksX3_ownDirectory_2 0 rfl rfl)
theorem dX3_ownDirectory_49 : decode cX3_ownDirectory 49 = .ok (.aload_n 0, 1) := dk_42 (dk_at dksX3_ownDirectory_2 3 rfl rfl)
theorem dX3_ownDirectory_50 : decode cX3_ownDirectory 50 = .ok (.iload_n 2, 1) := dk_28 (dk_at dksX3_ownDirectory_2 4 rfl rfl)
theorem dX3_ownDirectory_51 : decode cX3_ownDirectory 51 = .ok (.invokevirtual 238, 3) := dk_182 0 238 (dk_at dksX3_ownDirectory_2 5 rfl rfl)
theorem dX3_ownDirectory_54 : decode cX3_ownDirectory 54 = .ok (.aload_n 1, 1) := dk_43 (dk_at dksX3_ownDirectory_2 8 rfl rfl)
theorem dX3_ownDirectory_55 : decode cX3_ownDirectory 55 = .ok (.areturn, 1) := dk_176 (dk_at dksX3_ownDirectory_2 9 rfl rfl)
/-! PageGarden$Garden.ownDirectory()LPageGarden$Directory; -/
abbrev M_X3_ownDirectory (z0 n0 : Nat) (s' : gS) : gM := (RX3, cX3_ownDirectory, 3, (some (FieldType.object "PageGarden$Directory")), "ownDirectory", [], 11, z0, n0, s'.2.1, s'.2.2)
abbrev W_X3_ownDirectory (E : gE) (z0 n0 : Nat) (r : (Option Nat ⊕ String)) (s' : gS) (pc : Nat) (L : List (Nat × gV)) (st : List gV) (s : gS) : Prop := gW E (M_X3_ownDirectory z0 n0 s') (gQm E (M_X3_ownDirectory z0 n0 s') (gOr r) s') pc L st s
noncomputable def f_X3_ownDirectory_54 (κ : gK) (F : Nat)  (l1 : Option Nat) (s : gS) : Option ((Option Nat ⊕ String) × gS) :=
  some ((.inl l1), s)
set_option maxHeartbeats 4000000 in
theorem w_X3_ownDirectory_54 {E : gE} {F z0 n0 : Nat} {r : (Option Nat ⊕ String)} {s' : gS}   : ∀ (l1 : Option Nat)  (s : gS), f_X3_ownDirectory_54 (gk E) F  l1 s = some (r, s') → W_X3_ownDirectory E z0 n0 r s' 54 [(1, vR l1)] [] s := by
  intro l1 s hB
  unfold f_X3_ownDirectory_54 at hB
  refine gw_aload_n 0 rfl dX3_ownDirectory_54 ?_
  obtain ⟨rfl, rfl⟩ := Prod.mk.inj (Option.some.inj hB)
  exact gw_aret rfl (Or.inl ⟨_, rfl⟩) rfl rfl dX3_ownDirectory_55
noncomputable def f_X3_ownDirectory_0 (κ : gK) (F : Nat)  (l0 : Option Nat) (s : gS) : Option ((Option Nat ⊕ String) × gS) :=
  gB1 (gfR s l0 7 6) fun v1 =>
  gB1 (gfI s v1 6 2) fun v2 =>
  gB1 (gck s l0 7) fun _ =>
  gB2 (f_X3_directory κ F l0 v2 s) fun v4 s3 =>
  gB1 (gfR s3 l0 7 6) fun v6 =>
  gB1 (gfR s3 l0 7 6) fun v7 =>
  gB1 (gfI s3 v7 6 2) fun v8 =>
  gB1 (gck s3 v6 6) fun _ =>
  gB2 (f_X7_isNew κ F v6 v8 s3) fun v10 s9 =>
  if v10 = 0 then
    gB1 (gfR s9 l0 7 6) fun v12 =>
    gB1 (gfI s9 v12 6 2) fun v13 =>
    gB1 (gfR s9 l0 7 6) fun v14 =>
    gB1 (gck s9 l0 7) fun _ =>
    gB3 (f_X3_dig κ F l0 v4 s9) fun v16 s15 =>
    gB1 (gpf κ s15 v14 6 2 (.int v16)) fun s18 =>
    gB1 (gck s18 l0 7) fun _ =>
    gB2 (f_X3_leave κ F l0 v13 s18) fun v20 s19 =>
    f_X3_ownDirectory_54 κ F  v4 s19
  else
    f_X3_ownDirectory_54 κ F  v4 s9
set_option maxHeartbeats 4000000 in
theorem w_X3_ownDirectory_0 {E : gE} {F z0 n0 : Nat} {r : (Option Nat ⊕ String)} {s' : gS}   : ∀ (l0 : Option Nat)  (s : gS), f_X3_ownDirectory_0 (gk E) F  l0 s = some (r, s') → W_X3_ownDirectory E z0 n0 r s' 0 [(0, vR l0)] [] s := by
  intro l0 s hB
  unfold f_X3_ownDirectory_0 at hB
  refine gw_aload_n 0 rfl dX3_ownDirectory_0 ?_
  refine gw_aload_n 0 rfl dX3_ownDirectory_1 ?_
  obtain ⟨v1, hv1, hB⟩ := gB1_some hB
  refine gw_getf (C := RX3) (T := TX3) (N := 9) (k := 6) gcl7 (by decide) in_X3 q289 (gfR_spec hv1) dX3_ownDirectory_2 ?_
  obtain ⟨v2, hv2, hB⟩ := gB1_some hB
  refine gw_getfN (C := RX7) (T := TX7) (N := 3) (k := 2) gcl6 (by decide) in_X7 q1791 (gfI_spec hv2) dX3_ownDirectory_5 ?_
  obtain ⟨u0, hu5, hB⟩ := gB1_some hB
  obtain ⟨v4, s3, hv4, hB⟩ := gB2_some hB
  refine gw_callV (y := yX3_directory) (lw_V q2041 q2043 qs23 q110 q2044) hdV_X3_directory gcl7 hu5 (As := [vI v2]) (rest := []) (m_X3_directory _ _ _ _ _ hv4) (Nat.le_of_ble_eq_true rfl) (Nat.le_of_ble_eq_true rfl) rfl (Nat.le_of_ble_eq_true rfl) dX3_ownDirectory_8 (gCont_i ?_)
  refine gw_astore_n (L' := [(1, vR v4), (0, vR l0)]) (Nat.le_of_ble_eq_true rfl) rfl dX3_ownDirectory_11 ?_
  refine gw_aload_n 1 rfl dX3_ownDirectory_12 ?_
  obtain ⟨v6, hv6, hB⟩ := gB1_some hB
  refine gw_getf (C := RX3) (T := TX3) (N := 9) (k := 6) gcl7 (by decide) in_X3 q289 (gfR_spec hv6) dX3_ownDirectory_13 ?_
  refine gw_aload_n 1 rfl dX3_ownDirectory_16 ?_
  obtain ⟨v7, hv7, hB⟩ := gB1_some hB
  refine gw_getf (C := RX3) (T := TX3) (N := 9) (k := 6) gcl7 (by decide) in_X3 q289 (gfR_spec hv7) dX3_ownDirectory_17 ?_
  obtain ⟨v8, hv8, hB⟩ := gB1_some hB
  refine gw_getfN (C := RX7) (T := TX7) (N := 3) (k := 2) gcl6 (by decide) in_X7 q1791 (gfI_spec hv8) dX3_ownDirectory_20 ?_
  obtain ⟨u0, hu11, hB⟩ := gB1_some hB
  obtain ⟨v10, s9, hv10, hB⟩ := gB2_some hB
  refine gw_callV (y := yX7_isNew) (lw_V q2075 q2076 q2077 q144 q2078) hdV_X7_isNew gcl6 hu11 (As := [vI v8]) (rest := []) (m_X7_isNew _ _ _ _ _ hv10) (Nat.le_of_ble_eq_true rfl) (Nat.le_of_ble_eq_true rfl) rfl (Nat.le_of_ble_eq_true rfl) dX3_ownDirectory_23 (gCont_i ?_)
  refine gw_if_ne (tgt := 54) dX3_ownDirectory_26 (by decide) (fun hcnd => ?_) (fun hcnd => ?_)
  · rw [if_neg hcnd] at hB
    exact gw_sub [0] rfl (w_X3_ownDirectory_54  _ _ hB)
  · rw [if_pos hcnd] at hB
    refine gw_aload_n 1 rfl dX3_ownDirectory_29 ?_
    obtain ⟨v12, hv12, hB⟩ := gB1_some hB
    refine gw_getf (C := RX3) (T := TX3) (N := 9) (k := 6) gcl7 (by decide) in_X3 q289 (gfR_spec hv12) dX3_ownDirectory_30 ?_
    obtain ⟨v13, hv13, hB⟩ := gB1_some hB
    refine gw_getfN (C := RX7) (T := TX7) (N := 3) (k := 2) gcl6 (by decide) in_X7 q1791 (gfI_spec hv13) dX3_ownDirectory_33 ?_
    refine gw_istore_n (L' := [(2, vI v13), (1, vR v4), (0, vR l0)]) (Nat.le_of_ble_eq_true rfl) rfl dX3_ownDirectory_36 ?_
    refine gw_aload_n 2 rfl dX3_ownDirectory_37 ?_
    obtain ⟨v14, hv14, hB⟩ := gB1_some hB
    refine gw_getf (C := RX3) (T := TX3) (N := 9) (k := 6) gcl7 (by decide) in_X3 q289 (gfR_spec hv14) dX3_ownDirectory_38 ?_
    refine gw_aload_n 2 rfl dX3_ownDirectory_41 ?_
    refine gw_aload_n 1 rfl dX3_ownDirectory_42 ?_
    obtain ⟨u0, hu17, hB⟩ := gB1_some hB
    rcases gB3_some hB with ⟨v16, s15, hv16, hB⟩ | ⟨Cv16, hv16, hzv16⟩
    rotate_left
    · subst hzv16
      exact gw_callV (y := yX3_dig) (lw_V q2114 q2116 qs28 q110 q2117) hdV_X3_dig gcl7 hu17 (As := [vR v4]) (rest := [vR v14]) (m_X3_dig _ _ _ _ _ hv16) (Nat.le_of_ble_eq_true rfl) (Nat.le_of_ble_eq_true rfl) rfl (Nat.le_of_ble_eq_true rfl) dX3_ownDirectory_43 (gCont_x (gx_out rfl rfl rfl))
    refine gw_callV (y := yX3_dig) (lw_V q2114 q2116 qs28 q110 q2117) hdV_X3_dig gcl7 hu17 (As := [vR v4]) (rest := [vR v14]) (m_X3_dig _ _ _ _ _ hv16) (Nat.le_of_ble_eq_true rfl) (Nat.le_of_ble_eq_true rfl) rfl (Nat.le_of_ble_eq_true rfl) dX3_ownDirectory_43 (gCont_i ?_)
    obtain ⟨s18, hs18, hB⟩ := gB1_some hB
    refine gw_putfN (C := RX7) (T := TX7) (N := 3) (k := 2) tyX7 tyX7_ok nmX7 gcl6 (by decide) in_X7 q1791 rfl (tyX7_ok 2 (by decide)) (gNF_i _) hs18 dX3_ownDirectory_46 ?_
    refine gw_aload_n 2 rfl dX3_ownDirectory_49 ?_
    refine gw_iload_n 0 rfl dX3_ownDirectory_50 ?_
    obtain ⟨u0, hu21, hB⟩ := gB1_some hB
    obtain ⟨v20, s19, hv20, hB⟩ := gB2_some hB
    refine gw_callV (y := yX3_leave) (lw_V q2123 q2125 qs29 q110 q2126) hdV_X3_leave gcl7 hu21 (As := [vI v13]) (rest := []) (m_X3_leave _ _ _ _ _ hv20) (Nat.le_of_ble_eq_true rfl) (Nat.le_of_ble_eq_true rfl) rfl (Nat.le_of_ble_eq_true rfl) dX3_ownDirectory_51 (gCont_v ?_)
    exact gw_sub [1] rfl (w_X3_ownDirectory_54  _ _ hB)
noncomputable def f_X3_ownDirectory (κ : gK) (F : Nat) (a0 : Option Nat) (s : gS) : Option ((Option Nat ⊕ String) × gS) := f_X3_ownDirectory_0 κ F a0 s
theorem m_X3_ownDirectory {E : gE} {F : Nat} (a0 : Option Nat) (s : gS) (r : (Option Nat ⊕ String)) (s' : gS) (h : f_X3_ownDirectory (gk E) F a0 s = some (r, s')) : gCT E 11 yX3_ownDirectory (ws_ yX3_ownDirectory cX3_ownDirectory 3 (some (FieldType.object "PageGarden$Directory"))) [vR a0] s (gOr r) s' := by
  refine gCT_of2 (fun h => absurd h (by decide)) (plainFor_of_name (by decide)) (Nat.le_of_ble_eq_true rfl) ?_
  exact gw_sub [0] rfl (w_X3_ownDirectory_0 _ _ h)
def dkwX8_isKey_0 : List UInt8 := [26, 133, 9, 20, 0, 3, 184, 0, 5, 172]
abbrev dktX8_isKey_0 : List UInt8 := dkwX8_isKey_0 ++ []
theorem dksX8_isKey_0 : cX8_isKey.data.toList.drop 0 = dktX8_isKey_0 := by decide +kernel
theorem dX8_isKey_0 : decode cX8_isKey 0 = .ok (.iload_n 0, 1) := dk_26 (dk_at dksX8_isKey_0 0 rfl rfl)
theorem dX8_isKey_1 : decode cX8_isKey 1 = .ok (.i2l, 1) := dk_133 (dk_at dksX8_isKey_0 1 rfl rfl)
theorem dX8_isKey_2 : decode cX8_isKey 2 = .ok (.lconst 0, 1) := dk_9 (dk_at dksX8_isKey_0 2 rfl rfl)
theorem dX8_isKey_3 : decode cX8_isKey 3 = .ok (.ldc2_w 3, 3) := dk_20 0 3 (dk_at dksX8_isKey_0 3 rfl rfl)
theorem dX8_isKey_6 : decode cX8_isKey 6 = .ok (.invokestatic 5, 3) := dk_184 0 5 (dk_at dksX8_isKey_0 6 rfl rfl)
theorem dX8_isKey_9 : decode cX8_isKey 9 = .ok (.ireturn, 1) := dk_172 (dk_at dksX8_isKey_0 9 rfl rfl)
/-! PageGarden$Keys.isKey(I)Z -/
abbrev M_X8_isKey (z0 n0 : Nat) (s' : gS) : gM := (RX8, cX8_isKey, 1, (some FieldType.boolean), "isKey", [], 2, z0, n0, s'.2.1, s'.2.2)
abbrev W_X8_isKey (E : gE) (z0 n0 : Nat) (r : Int32) (s' : gS) (pc : Nat) (L : List (Nat × gV)) (st : List gV) (s : gS) : Prop := gW E (M_X8_isKey z0 n0 s') (gQm E (M_X8_isKey z0 n0 s') (.inl (some (vI r))) s') pc L st s
noncomputable def f_X8_isKey_0 (κ : gK) (F : Nat)  (l0 : Int32) (s : gS) : Option (Int32 × gS) :=
  gB2 (f_X1_inRange κ F (l0.toInt64) (0 : Int64) (99 : Int64) s) fun v2 s1 =>
  gB1 (gok .boolean v2) fun _ => some (v2, s1)
set_option maxHeartbeats 4000000 in
theorem w_X8_isKey_0 {E : gE} {F z0 n0 : Nat} {r : Int32} {s' : gS}   : ∀ (l0 : Int32)  (s : gS), f_X8_isKey_0 (gk E) F  l0 s = some (r, s') → W_X8_isKey E z0 n0 r s' 0 [(0, vI l0)] [] s := by
  intro l0 s hB
  unfold f_X8_isKey_0 at hB
  refine gw_iload_n 0 rfl dX8_isKey_0 ?_
  refine gw_i2l dX8_isKey_1 ?_
  refine gw_lconst (v := (0 : Int64)) (by decide) dX8_isKey_2 ?_
  refine gw_ldc2 (99 : Int64) q1998 dX8_isKey_3 ?_
  obtain ⟨v2, s1, hv2, hB⟩ := gB2_some hB
  refine gw_callSN (y := yX1_inRange) (lw_meth q1363) q108 q1999 q1362 hdS_X1_inRange (As := [vJ (l0.toInt64), vJ (0 : Int64), vJ (99 : Int64)]) (rest := []) (m_X1_inRange _ _ _ _ _ _ hv2) (Nat.le_of_ble_eq_true rfl) (Nat.le_of_ble_eq_true rfl) rfl (Nat.le_of_ble_eq_true rfl) dX8_isKey_6 (gCont_i ?_)
  obtain ⟨u, hu, hB⟩ := gB1_some hB
  obtain ⟨rfl, rfl⟩ := Prod.mk.inj (Option.some.inj hB)
  exact gw_zret rfl hu rfl rfl dX8_isKey_9
noncomputable def f_X8_isKey (κ : gK) (F : Nat) (a1 : Int32) (s : gS) : Option (Int32 × gS) := f_X8_isKey_0 κ F a1 s
theorem m_X8_isKey {E : gE} {F : Nat} (a1 : Int32) (s : gS) (r : Int32) (s' : gS) (h : f_X8_isKey (gk E) F a1 s = some (r, s')) : gCT E 2 yX8_isKey (ws_ yX8_isKey cX8_isKey 1 (some FieldType.boolean)) [vI a1] s (.inl (some (vI r))) s' := by
  refine gCT_of2 (fun h => absurd h (by decide)) (plainFor_of_name (by decide)) (Nat.le_of_ble_eq_true rfl) ?_
  exact gw_sub [0] rfl (w_X8_isKey_0 _ _ h)
def dkwX3_requireKey_0 : List UInt8 := [26, 184, 1, 8, 19, 1, 13, 184, 1, 15, 177]
abbrev dktX3_requireKey_0 : List UInt8 := dkwX3_requireKey_0 ++ []
theorem dksX3_requireKey_0 : cX3_requireKey.data.toList.drop 0 = dktX3_requireKey_0 := by decide +kernel
theorem dX3_requireKey_0 : decode cX3_requireKey 0 = .ok (.iload_n 0, 1) := dk_26 (dk_at dksX3_requireKey_0 0 rfl rfl)
theorem dX3_requireKey_1 : decode cX3_requireKey 1 = .ok (.invokestatic 264, 3) := dk_184 1 8 (dk_at dksX3_requireKey_0 1 rfl rfl)
theorem dX3_requireKey_4 : decode cX3_requireKey 4 = .ok (.ldc_w 269, 3) := dk_19 1 13 (dk_at dksX3_requireKey_0 4 rfl rfl)
theorem dX3_requireKey_7 : decode cX3_requireKey 7 = .ok (.invokestatic 271, 3) := dk_184 1 15 (dk_at dksX3_requireKey_0 7 rfl rfl)
theorem dX3_requireKey_10 : decode cX3_requireKey 10 = .ok (.return_, 1) := dk_177 (dk_at dksX3_requireKey_0 10 rfl rfl)
/-! PageGarden$Garden.requireKey(I)V -/
abbrev M_X3_requireKey (z0 n0 : Nat) (s' : gS) : gM := (RX3, cX3_requireKey, 1, none, "requireKey", [], 10, z0, n0, s'.2.1, s'.2.2)
abbrev W_X3_requireKey (E : gE) (z0 n0 : Nat) (r : (Unit ⊕ String)) (s' : gS) (pc : Nat) (L : List (Nat × gV)) (st : List gV) (s : gS) : Prop := gW E (M_X3_requireKey z0 n0 s') (gQm E (M_X3_requireKey z0 n0 s') (gOv r) s') pc L st s
noncomputable def f_X3_requireKey_0 (κ : gK) (F : Nat)  (l0 : Int32) (s : gS) : Option ((Unit ⊕ String) × gS) :=
  gB2 (f_X8_isKey κ F l0 s) fun v2 s1 =>
  gB3 (f_X1_requireArgument κ F v2 (κ.2 29) s1) fun v4 s3 =>
  some ((.inl ()), s3)
set_option maxHeartbeats 4000000 in
theorem w_X3_requireKey_0 {E : gE} {F z0 n0 : Nat} {r : (Unit ⊕ String)} {s' : gS}   : ∀ (l0 : Int32)  (s : gS), f_X3_requireKey_0 (gk E) F  l0 s = some (r, s') → W_X3_requireKey E z0 n0 r s' 0 [(0, vI l0)] [] s := by
  intro l0 s hB
  unfold f_X3_requireKey_0 at hB
  refine gw_iload_n 0 rfl dX3_requireKey_0 ?_
  obtain ⟨v2, s1, hv2, hB⟩ := gB2_some hB
  refine gw_callS (y := yX8_isKey) (lw_S q1995 q1996 q159 q1997) hdS_X8_isKey (As := [vI l0]) (rest := []) (m_X8_isKey _ _ _ _ hv2) (Nat.le_of_ble_eq_true rfl) (Nat.le_of_ble_eq_true rfl) rfl (Nat.le_of_ble_eq_true rfl) dX3_requireKey_1 (gCont_i ?_)
  refine gw_ldcSW (own := "PageGarden$Garden") (tx := "key") (i := 29) rfl (by decide) dX3_requireKey_4 ?_
  rcases gB3_some hB with ⟨v4, s3, hv4, hB⟩ | ⟨Cv4, hv4, hzv4⟩
  rotate_left
  · subst hzv4
    exact gw_callSN (y := yX1_requireArgument) (lw_meth q2003) q108 q2001 q2002 hdS_X1_requireArgument (As := [vI v2, vR ((gk E).2 29)]) (rest := []) (m_X1_requireArgument _ _ _ _ _ hv4) (Nat.le_of_ble_eq_true rfl) (Nat.le_of_ble_eq_true rfl) rfl (Nat.le_of_ble_eq_true rfl) dX3_requireKey_7 (gCont_x (gx_out rfl rfl rfl))
  refine gw_callSN (y := yX1_requireArgument) (lw_meth q2003) q108 q2001 q2002 hdS_X1_requireArgument (As := [vI v2, vR ((gk E).2 29)]) (rest := []) (m_X1_requireArgument _ _ _ _ _ hv4) (Nat.le_of_ble_eq_true rfl) (Nat.le_of_ble_eq_true rfl) rfl (Nat.le_of_ble_eq_true rfl) dX3_requireKey_7 (gCont_v ?_)
  obtain ⟨rfl, rfl⟩ := Prod.mk.inj (Option.some.inj hB)
  exact gw_vret rfl rfl rfl dX3_requireKey_10
noncomputable def f_X3_requireKey (κ : gK) (F : Nat) (a1 : Int32) (s : gS) : Option ((Unit ⊕ String) × gS) := f_X3_requireKey_0 κ F a1 s
theorem m_X3_requireKey {E : gE} {F : Nat} (a1 : Int32) (s : gS) (r : (Unit ⊕ String)) (s' : gS) (h : f_X3_requireKey (gk E) F a1 s = some (r, s')) : gCT E 10 yX3_requireKey (ws_ yX3_requireKey cX3_requireKey 1 none) [vI a1] s (gOv r) s' := by
  refine gCT_of2 (fun h => absurd h (by decide)) (plainFor_of_name (by decide)) (Nat.le_of_ble_eq_true rfl) ?_
  exact gw_sub [0] rfl (w_X3_requireKey_0 _ _ h)
def dkwX3_reason_1 : List UInt8 := [178, 0, 42, 182, 1, 4, 96, 164, 0, 7, 5, 167, 0, 4, 3, 172]
abbrev dktX3_reason_1 : List UInt8 := dkwX3_reason_1 ++ []
def dkwX3_reason_0 : List UInt8 := [42, 27, 182, 0, 254, 61, 28, 17, 252, 24, 160, 0, 7, 4, 167, 0, 24, 28, 42, 182, 1, 1, 42]
abbrev dktX3_reason_0 : List UInt8 := dkwX3_reason_0 ++ dktX3_reason_1
theorem dksX3_reason_0 : cX3_reason.data.toList.drop 0 = dktX3_reason_0 := by decide +kernel
theorem dksX3_reason_1 : cX3_reason.data.toList.drop 23 = dktX3_reason_1 := dk_seg dksX3_reason_0 23 rfl rfl
theorem dX3_reason_0 : decode cX3_reason 0 = .ok (.aload_n 0, 1) := dk_42 (dk_at dksX3_reason_0 0 rfl rfl)
theorem dX3_reason_1 : decode cX3_reason 1 = .ok (.iload_n 1, 1) := dk_27 (dk_at dksX3_reason_0 1 rfl rfl)
theorem dX3_reason_2 : decode cX3_reason 2 = .ok (.invokevirtual 254, 3) := dk_182 0 254 (dk_at dksX3_reason_0 2 rfl rfl)
theorem dX3_reason_5 : decode cX3_reason 5 = .ok (.istore_n 2, 1) := dk_61 (dk_at dksX3_reason_0 5 rfl rfl)
theorem dX3_reason_6 : decode cX3_reason 6 = .ok (.iload_n 2, 1) := dk_28 (dk_at dksX3_reason_0 6 rfl rfl)
theorem dX3_reason_7 : decode cX3_reason 7 = .ok (.sipush (-1000), 3) := dk_17 252 24 (dk_at dksX3_reason_0 7 rfl rfl)
theorem dX3_reason_10 : decode cX3_reason 10 = .ok (.if_icmp .ne 7, 3) := dk_160 0 7 (dk_at dksX3_reason_0 10 rfl rfl)
theorem dX3_reason_13 : decode cX3_reason 13 = .ok (.iconst 1, 1) := dk_4 (dk_at dksX3_reason_0 13 rfl rfl)
theorem dX3_reason_14 : decode cX3_reason 14 = .ok (.goto 24, 3) := dk_167 0 24 (dk_at dksX3_reason_0 14 rfl rfl)
theorem dX3_reason_17 : decode cX3_reason 17 = .ok (.iload_n 2, 1) := dk_28 (dk_at dksX3_reason_0 17 rfl rfl)
theorem dX3_reason_18 : decode cX3_reason 18 = .ok (.aload_n 0, 1) := dk_42 (dk_at dksX3_reason_0 18 rfl rfl)
theorem dX3_reason_19 : decode cX3_reason 19 = .ok (.invokevirtual 257, 3) := dk_182 1 1 (dk_at dksX3_reason_0 19 rfl rfl)
theorem dX3_reason_22 : decode cX3_reason 22 = .ok (.aload_n 0, 1) := dk_42 (dk_at dksX3_reason_0 22 rfl rfl)
theorem dX3_reason_23 : decode cX3_reason 23 = .ok (.getstatic 42, 3) := dk_178 0 42 (dk_at dksX3_reason_1 0 rfl rfl)
theorem dX3_reason_26 : decode cX3_reason 26 = .ok (.invokevirtual 260, 3) := dk_182 1 4 (dk_at dksX3_reason_1 3 rfl rfl)
theorem dX3_reason_29 : decode cX3_reason 29 = .ok (.iadd, 1) := dk_96 (dk_at dksX3_reason_1 6 rfl rfl)
theorem dX3_reason_30 : decode cX3_reason 30 = .ok (.if_icmp .le 7, 3) := dk_164 0 7 (dk_at dksX3_reason_1 7 rfl rfl)
theorem dX3_reason_33 : decode cX3_reason 33 = .ok (.iconst 2, 1) := dk_5 (dk_at dksX3_reason_1 10 rfl rfl)
theorem dX3_reason_34 : decode cX3_reason 34 = .ok (.goto 4, 3) := dk_167 0 4 (dk_at dksX3_reason_1 11 rfl rfl)
theorem dX3_reason_37 : decode cX3_reason 37 = .ok (.iconst 0, 1) := dk_3 (dk_at dksX3_reason_1 14 rfl rfl)
theorem dX3_reason_38 : decode cX3_reason 38 = .ok (.ireturn, 1) := dk_172 (dk_at dksX3_reason_1 15 rfl rfl)
/-! PageGarden$Garden.reason(I)I -/
abbrev M_X3_reason (z0 n0 : Nat) (s' : gS) : gM := (RX3, cX3_reason, 3, (some FieldType.int), "reason", [], 12, z0, n0, s'.2.1, s'.2.2)
abbrev W_X3_reason (E : gE) (z0 n0 : Nat) (r : (Int32 ⊕ String)) (s' : gS) (pc : Nat) (L : List (Nat × gV)) (st : List gV) (s : gS) : Prop := gW E (M_X3_reason z0 n0 s') (gQm E (M_X3_reason z0 n0 s') (gOi r) s') pc L st s
noncomputable def f_X3_reason_38 (κ : gK) (F : Nat)  (t0 : Int32) (s : gS) : Option ((Int32 ⊕ String) × gS) :=
  some ((.inl t0), s)
set_option maxHeartbeats 4000000 in
theorem w_X3_reason_38 {E : gE} {F z0 n0 : Nat} {r : (Int32 ⊕ String)} {s' : gS}   : ∀  (t0 : Int32) (s : gS), f_X3_reason_38 (gk E) F  t0 s = some (r, s') → W_X3_reason E z0 n0 r s' 38 [] [vI t0] s := by
  intro t0 s hB
  unfold f_X3_reason_38 at hB
  obtain ⟨rfl, rfl⟩ := Prod.mk.inj (Option.some.inj hB)
  exact gw_iret rfl rfl rfl dX3_reason_38
noncomputable def f_X3_reason_0 (κ : gK) (F : Nat)  (l0 : Option Nat) (l1 : Int32) (s : gS) : Option ((Int32 ⊕ String) × gS) :=
  gB1 (gck s l0 7) fun _ =>
  gB3 (f_X3_bedsFor κ F l0 l1 s) fun v2 s1 =>
  if v2 = (-1000 : Int32) then
    f_X3_reason_38 κ F  (1 : Int32) s1
  else
    gB1 (gck s1 l0 7) fun _ =>
    gB2 (f_X3_diggable κ F l0  s1) fun v5 s4 =>
    gB1 (gck s4 l0 7) fun _ =>
    gB2 (f_X3_inState κ F l0 (κ.2 0) s4) fun v8 s7 =>
    if v2 ≤ (v5 + v8) then
      f_X3_reason_38 κ F  (0 : Int32) s7
    else
      f_X3_reason_38 κ F  (2 : Int32) s7
set_option maxHeartbeats 4000000 in
theorem w_X3_reason_0 {E : gE} {F z0 n0 : Nat} {r : (Int32 ⊕ String)} {s' : gS}   : ∀ (l0 : Option Nat) (l1 : Int32)  (s : gS), f_X3_reason_0 (gk E) F  l0 l1 s = some (r, s') → W_X3_reason E z0 n0 r s' 0 [(0, vR l0), (1, vI l1)] [] s := by
  intro l0 l1 s hB
  unfold f_X3_reason_0 at hB
  refine gw_aload_n 0 rfl dX3_reason_0 ?_
  refine gw_iload_n 1 rfl dX3_reason_1 ?_
  obtain ⟨u0, hu3, hB⟩ := gB1_some hB
  rcases gB3_some hB with ⟨v2, s1, hv2, hB⟩ | ⟨Cv2, hv2, hzv2⟩
  rotate_left
  · subst hzv2
    exact gw_callV (y := yX3_bedsFor) (lw_V q2037 q2038 q2039 q110 q2040) hdV_X3_bedsFor gcl7 hu3 (As := [vI l1]) (rest := []) (m_X3_bedsFor _ _ _ _ _ hv2) (Nat.le_of_ble_eq_true rfl) (Nat.le_of_ble_eq_true rfl) rfl (Nat.le_of_ble_eq_true rfl) dX3_reason_2 (gCont_x (gx_out rfl rfl rfl))
  refine gw_callV (y := yX3_bedsFor) (lw_V q2037 q2038 q2039 q110 q2040) hdV_X3_bedsFor gcl7 hu3 (As := [vI l1]) (rest := []) (m_X3_bedsFor _ _ _ _ _ hv2) (Nat.le_of_ble_eq_true rfl) (Nat.le_of_ble_eq_true rfl) rfl (Nat.le_of_ble_eq_true rfl) dX3_reason_2 (gCont_i ?_)
  refine gw_istore_n (L' := [(2, vI v2), (0, vR l0), (1, vI l1)]) (Nat.le_of_ble_eq_true rfl) rfl dX3_reason_5 ?_
  refine gw_iload_n 0 rfl dX3_reason_6 ?_
  refine gw_sipush (v := (-1000 : Int32)) (by decide) dX3_reason_7 ?_
  refine gw_icmp_ne (tgt := 17) dX3_reason_10 (by decide) (fun hcnd => ?_) (fun hcnd => ?_)
  · rw [if_neg hcnd] at hB
    refine gw_iload_n 0 rfl dX3_reason_17 ?_
    refine gw_aload_n 1 rfl dX3_reason_18 ?_
    obtain ⟨u0, hu6, hB⟩ := gB1_some hB
    obtain ⟨v5, s4, hv5, hB⟩ := gB2_some hB
    refine gw_callV (y := yX3_diggable) (lw_V q2092 q2093 q2094 q110 q2095) hdV_X3_diggable gcl7 hu6 (As := []) (rest := [vI v2]) (m_X3_diggable _ _ _ _ hv5) (Nat.le_of_ble_eq_true rfl) (Nat.le_of_ble_eq_true rfl) rfl (Nat.le_of_ble_eq_true rfl) dX3_reason_19 (gCont_i ?_)
    refine gw_aload_n 1 rfl dX3_reason_22 ?_
    refine gw_gets (i := 0) (by decide) q279 dX3_reason_23 ?_
    obtain ⟨u0, hu9, hB⟩ := gB1_some hB
    obtain ⟨v8, s7, hv8, hB⟩ := gB2_some hB
    refine gw_callV (y := yX3_inState) (lw_V q2096 q2097 q2098 q110 q2099) hdV_X3_inState gcl7 hu9 (As := [vR ((gk E).2 0)]) (rest := [vI v5, vI v2]) (m_X3_inState _ _ _ _ _ hv8) (Nat.le_of_ble_eq_true rfl) (Nat.le_of_ble_eq_true rfl) rfl (Nat.le_of_ble_eq_true rfl) dX3_reason_26 (gCont_i ?_)
    refine gw_iadd dX3_reason_29 ?_
    refine gw_icmp_le (tgt := 37) dX3_reason_30 (by decide) (fun hcnd => ?_) (fun hcnd => ?_)
    · rw [if_pos hcnd] at hB
      refine gw_iconst (v := (0 : Int32)) (by decide) dX3_reason_37 ?_
      exact gw_sub [] rfl (w_X3_reason_38  _ _ hB)
    · rw [if_neg hcnd] at hB
      refine gw_iconst (v := (2 : Int32)) (by decide) dX3_reason_33 ?_
      refine gw_goto (tgt := 38) dX3_reason_34 (by decide) ?_
      exact gw_sub [] rfl (w_X3_reason_38  _ _ hB)
  · rw [if_pos hcnd] at hB
    refine gw_iconst (v := (1 : Int32)) (by decide) dX3_reason_13 ?_
    refine gw_goto (tgt := 38) dX3_reason_14 (by decide) ?_
    exact gw_sub [] rfl (w_X3_reason_38  _ _ hB)
noncomputable def f_X3_reason (κ : gK) (F : Nat) (a0 : Option Nat) (a1 : Int32) (s : gS) : Option ((Int32 ⊕ String) × gS) := f_X3_reason_0 κ F a0 a1 s
theorem m_X3_reason {E : gE} {F : Nat} (a0 : Option Nat) (a1 : Int32) (s : gS) (r : (Int32 ⊕ String)) (s' : gS) (h : f_X3_reason (gk E) F a0 a1 s = some (r, s')) : gCT E 12 yX3_reason (ws_ yX3_reason cX3_reason 3 (some FieldType.int)) [vR a0, vI a1] s (gOi r) s' := by
  refine gCT_of2 (fun h => absurd h (by decide)) (plainFor_of_name (by decide)) (Nat.le_of_ble_eq_true rfl) ?_
  exact gw_sub [0, 1] rfl (w_X3_reason_0 _ _ _ h)
def dkwX9_init_0 : List UInt8 := [42, 183, 0, 1, 42, 43, 181, 0, 7, 42, 44, 181, 0, 13, 177]
abbrev dktX9_init_0 : List UInt8 := dkwX9_init_0 ++ []
theorem dksX9_init_0 : cX9_init.data.toList.drop 0 = dktX9_init_0 := by decide +kernel
theorem dX9_init_0 : decode cX9_init 0 = .ok (.aload_n 0, 1) := dk_42 (dk_at dksX9_init_0 0 rfl rfl)
theorem dX9_init_1 : decode cX9_init 1 = .ok (.invokespecial 1, 3) := dk_183 0 1 (dk_at dksX9_init_0 1 rfl rfl)
theorem dX9_init_4 : decode cX9_init 4 = .ok (.aload_n 0, 1) := dk_42 (dk_at dksX9_init_0 4 rfl rfl)
theorem dX9_init_5 : decode cX9_init 5 = .ok (.aload_n 1, 1) := dk_43 (dk_at dksX9_init_0 5 rfl rfl)
theorem dX9_init_6 : decode cX9_init 6 = .ok (.putfield 7, 3) := dk_181 0 7 (dk_at dksX9_init_0 6 rfl rfl)
theorem dX9_init_9 : decode cX9_init 9 = .ok (.aload_n 0, 1) := dk_42 (dk_at dksX9_init_0 9 rfl rfl)
theorem dX9_init_10 : decode cX9_init 10 = .ok (.aload_n 2, 1) := dk_44 (dk_at dksX9_init_0 10 rfl rfl)
theorem dX9_init_11 : decode cX9_init 11 = .ok (.putfield 13, 3) := dk_181 0 13 (dk_at dksX9_init_0 11 rfl rfl)
theorem dX9_init_14 : decode cX9_init 14 = .ok (.return_, 1) := dk_177 (dk_at dksX9_init_0 14 rfl rfl)
/-! PageGarden$Leaf.<init>([I[I)V -/
abbrev M_X9_init (z0 n0 : Nat) (s' : gS) : gM := (RX9, cX9_init, 3, none, "<init>", [], 1, z0, n0, s'.2.1, s'.2.2)
abbrev W_X9_init (E : gE) (z0 n0 : Nat) (r : Unit) (s' : gS) (pc : Nat) (L : List (Nat × gV)) (st : List gV) (s : gS) : Prop := gW E (M_X9_init z0 n0 s') (gQm E (M_X9_init z0 n0 s') (.inl none) s') pc L st s
noncomputable def f_X9_init_0 (κ : gK) (F : Nat)  (l0 : Option Nat) (l1 : Option Nat) (l2 : Option Nat) (s : gS) : Option (Unit × gS) :=
  gB1 (gsm l0) fun _ =>
  gB1 (gpf κ s l0 2 0 (va_rf l1)) fun s2 =>
  gB1 (gpf κ s2 l0 2 1 (va_rf l2)) fun s3 =>
  some ((), s3)
set_option maxHeartbeats 4000000 in
theorem w_X9_init_0 {E : gE} {F z0 n0 : Nat} {r : Unit} {s' : gS}   : ∀ (l0 : Option Nat) (l1 : Option Nat) (l2 : Option Nat)  (s : gS), f_X9_init_0 (gk E) F  l0 l1 l2 s = some (r, s') → W_X9_init E z0 n0 r s' 0 [(0, vR l0), (1, vR l1), (2, vR l2)] [] s := by
  intro l0 l1 l2 s hB
  unfold f_X9_init_0 at hB
  refine gw_aload_n 0 rfl dX9_init_0 ?_
  obtain ⟨u0, hu1, hB⟩ := gB1_some hB
  refine gw_objInit (gsm_spec hu1) q2169 q172 q173 (Nat.le_of_ble_eq_true rfl) (Nat.le_of_ble_eq_true rfl) dX9_init_1 ?_
  refine gw_aload_n 0 rfl dX9_init_4 ?_
  refine gw_aload_n 1 rfl dX9_init_5 ?_
  obtain ⟨s2, hs2, hB⟩ := gB1_some hB
  refine gw_putfF (C := RX9) (T := TX9) (N := 2) (k := 0) tyX9 tyX9_ok nmX9 gcl2 (by decide) in_X9 q2170 rfl rfl rfl (tyX9_ok 0 (by decide)) (gNF_a _ _) hs2 dX9_init_6 ?_
  refine gw_aload_n 0 rfl dX9_init_9 ?_
  refine gw_aload_n 2 rfl dX9_init_10 ?_
  obtain ⟨s3, hs3, hB⟩ := gB1_some hB
  refine gw_putfF (C := RX9) (T := TX9) (N := 2) (k := 1) tyX9 tyX9_ok nmX9 gcl2 (by decide) in_X9 q2172 rfl rfl rfl (tyX9_ok 1 (by decide)) (gNF_a _ _) hs3 dX9_init_11 ?_
  obtain ⟨rfl, rfl⟩ := Prod.mk.inj (Option.some.inj hB)
  exact gw_vret rfl rfl rfl dX9_init_14
noncomputable def f_X9_init (κ : gK) (F : Nat) (a0 : Option Nat) (a1 : Option Nat) (a2 : Option Nat) (s : gS) : Option (Unit × gS) := f_X9_init_0 κ F a0 a1 a2 s
theorem m_X9_init {E : gE} {F : Nat} (a0 : Option Nat) (a1 : Option Nat) (a2 : Option Nat) (s : gS) (r : Unit) (s' : gS) (h : f_X9_init (gk E) F a0 a1 a2 s = some (r, s')) : gCT E 1 yX9_init (ws_ yX9_init cX9_init 3 none) [vR a0, vR a1, vR a2] s (.inl none) s' := by
  refine gCT_of2 (fun h => absurd h (by decide)) (plainFor_of_name (by decide)) (Nat.le_of_ble_eq_true rfl) ?_
  exact gw_sub [0, 1, 2] rfl (w_X9_init_0 _ _ _ _ h)
def dkwX9_with_2 : List UInt8 := [89, 42, 180, 0, 7, 29, 27, 184, 0, 38, 42, 180, 0, 13, 29, 28, 184, 0, 38, 183, 0, 35, 176]
abbrev dktX9_with_2 : List UInt8 := dkwX9_with_2 ++ []
def dkwX9_with_1 : List UInt8 := [58, 4, 25, 4, 29, 28, 79, 187, 0, 8, 89, 42, 180, 0, 7, 25, 4, 183, 0, 35, 176, 187, 0, 8]
abbrev dktX9_with_1 : List UInt8 := dkwX9_with_1 ++ dktX9_with_2
def dkwX9_with_0 : List UInt8 := [42, 27, 182, 0, 16, 62, 42, 27, 182, 0, 26, 153, 0, 34, 42, 180, 0, 13, 182, 0, 30, 192, 0, 31]
abbrev dktX9_with_0 : List UInt8 := dkwX9_with_0 ++ dktX9_with_1
theorem dksX9_with_0 : cX9_with.data.toList.drop 0 = dktX9_with_0 := by decide +kernel
theorem dksX9_with_1 : cX9_with.data.toList.drop 24 = dktX9_with_1 := dk_seg dksX9_with_0 24 rfl rfl
theorem dksX9_with_2 : cX9_with.data.toList.drop 48 = dktX9_with_2 := dk_seg dksX9_with_1 24 rfl rfl
theorem dX9_with_0 : decode cX9_with 0 = .ok (.aload_n 0, 1) := dk_42 (dk_at dksX9_with_0 0 rfl rfl)
theorem dX9_with_1 : decode cX9_with 1 = .ok (.iload_n 1, 1) := dk_27 (dk_at dksX9_with_0 1 rfl rfl)
theorem dX9_with_2 : decode cX9_with 2 = .ok (.invokevirtual 16, 3) := dk_182 0 16 (dk_at dksX9_with_0 2 rfl rfl)
theorem dX9_with_5 : decode cX9_with 5 = .ok (.istore_n 3, 1) := dk_62 (dk_at dksX9_with_0 5 rfl rfl)
theorem dX9_with_6 : decode cX9_with 6 = .ok (.aload_n 0, 1) := dk_42 (dk_at dksX9_with_0 6 rfl rfl)
theorem dX9_with_7 : decode cX9_with 7 = .ok (.iload_n 1, 1) := dk_27 (dk_at dksX9_with_0 7 rfl rfl)
theorem dX9_with_8 : decode cX9_with 8 = .ok (.invokevirtual 26, 3) := dk_182 0 26 (dk_at dksX9_with_0 8 rfl rfl)
theorem dX9_with_11 : decode cX9_with 11 = .ok (.ifCond .eq 34, 3) := dk_153 0 34 (dk_at dksX9_with_0 11 rfl rfl)
theorem dX9_with_14 : decode cX9_with 14 = .ok (.aload_n 0, 1) := dk_42 (dk_at dksX9_with_0 14 rfl rfl)
theorem dX9_with_15 : decode cX9_with 15 = .ok (.getfield 13, 3) := dk_180 0 13 (dk_at dksX9_with_0 15 rfl rfl)
theorem dX9_with_18 : decode cX9_with 18 = .ok (.invokevirtual 30, 3) := dk_182 0 30 (dk_at dksX9_with_0 18 rfl rfl)
theorem dX9_with_21 : decode cX9_with 21 = .ok (.checkcast 31, 3) := dk_192 0 31 (dk_at dksX9_with_0 21 rfl rfl)
theorem dX9_with_24 : decode cX9_with 24 = .ok (.astore 4, 2) := dk_58 4 (dk_at dksX9_with_1 0 rfl rfl)
theorem dX9_with_26 : decode cX9_with 26 = .ok (.aload 4, 2) := dk_25 4 (dk_at dksX9_with_1 2 rfl rfl)
theorem dX9_with_28 : decode cX9_with 28 = .ok (.iload_n 3, 1) := dk_29 (dk_at dksX9_with_1 4 rfl rfl)
theorem dX9_with_29 : decode cX9_with 29 = .ok (.iload_n 2, 1) := dk_28 (dk_at dksX9_with_1 5 rfl rfl)
theorem dX9_with_30 : decode cX9_with 30 = .ok (.iastore, 1) := dk_79 (dk_at dksX9_with_1 6 rfl rfl)
theorem dX9_with_31 : decode cX9_with 31 = .ok (.new 8, 3) := dk_187 0 8 (dk_at dksX9_with_1 7 rfl rfl)
theorem dX9_with_34 : decode cX9_with 34 = .ok (.dup, 1) := dk_89 (dk_at dksX9_with_1 10 rfl rfl)
theorem dX9_with_35 : decode cX9_with 35 = .ok (.aload_n 0, 1) := dk_42 (dk_at dksX9_with_1 11 rfl rfl)
theorem dX9_with_36 : decode cX9_with 36 = .ok (.getfield 7, 3) := dk_180 0 7 (dk_at dksX9_with_1 12 rfl rfl)
theorem dX9_with_39 : decode cX9_with 39 = .ok (.aload 4, 2) := dk_25 4 (dk_at dksX9_with_1 15 rfl rfl)
theorem dX9_with_41 : decode cX9_with 41 = .ok (.invokespecial 35, 3) := dk_183 0 35 (dk_at dksX9_with_1 17 rfl rfl)
theorem dX9_with_44 : decode cX9_with 44 = .ok (.areturn, 1) := dk_176 (dk_at dksX9_with_1 20 rfl rfl)
theorem dX9_with_45 : decode cX9_with 45 = .ok (.new 8, 3) := dk_187 0 8 (dk_at dksX9_with_1 21 rfl rfl)
theorem dX9_with_48 : decode cX9_with 48 = .ok (.dup, 1) := dk_89 (dk_at dksX9_with_2 0 rfl rfl)
theorem dX9_with_49 : decode cX9_with 49 = .ok (.aload_n 0, 1) := dk_42 (dk_at dksX9_with_2 1 rfl rfl)
theorem dX9_with_50 : decode cX9_with 50 = .ok (.getfield 7, 3) := dk_180 0 7 (dk_at dksX9_with_2 2 rfl rfl)
theorem dX9_with_53 : decode cX9_with 53 = .ok (.iload_n 3, 1) := dk_29 (dk_at dksX9_with_2 5 rfl rfl)
theorem dX9_with_54 : decode cX9_with 54 = .ok (.iload_n 1, 1) := dk_27 (dk_at dksX9_with_2 6 rfl rfl)
theorem dX9_with_55 : decode cX9_with 55 = .ok (.invokestatic 38, 3) := dk_184 0 38 (dk_at dksX9_with_2 7 rfl rfl)
theorem dX9_with_58 : decode cX9_with 58 = .ok (.aload_n 0, 1) := dk_42 (dk_at dksX9_with_2 10 rfl rfl)
theorem dX9_with_59 : decode cX9_with 59 = .ok (.getfield 13, 3) := dk_180 0 13 (dk_at dksX9_with_2 11 rfl rfl)
theorem dX9_with_62 : decode cX9_with 62 = .ok (.iload_n 3, 1) := dk_29 (dk_at dksX9_with_2 14 rfl rfl)
theorem dX9_with_63 : decode cX9_with 63 = .ok (.iload_n 2, 1) := dk_28 (dk_at dksX9_with_2 15 rfl rfl)
theorem dX9_with_64 : decode cX9_with 64 = .ok (.invokestatic 38, 3) := dk_184 0 38 (dk_at dksX9_with_2 16 rfl rfl)
theorem dX9_with_67 : decode cX9_with 67 = .ok (.invokespecial 35, 3) := dk_183 0 35 (dk_at dksX9_with_2 19 rfl rfl)
theorem dX9_with_70 : decode cX9_with 70 = .ok (.areturn, 1) := dk_176 (dk_at dksX9_with_2 22 rfl rfl)
/-! PageGarden$Leaf.with(II)LPageGarden$Leaf; -/
abbrev M_X9_with (z0 n0 : Nat) (s' : gS) : gM := (RX9, cX9_with, 5, (some (FieldType.object "PageGarden$Leaf")), "with", [], 3, z0, n0, s'.2.1, s'.2.2)
abbrev W_X9_with (E : gE) (z0 n0 : Nat) (r : (Option Nat)) (s' : gS) (pc : Nat) (L : List (Nat × gV)) (st : List gV) (s : gS) : Prop := gW E (M_X9_with z0 n0 s') (gQm E (M_X9_with z0 n0 s') (.inl (some (vR r))) s') pc L st s
noncomputable def f_X9_with_0 (κ : gK) (F : Nat)  (l0 : Option Nat) (l1 : Int32) (l2 : Int32) (s : gS) : Option ((Option Nat) × gS) :=
  gB1 (gck s l0 2) fun _ =>
  gB2 (f_X9_placeOf κ F l0 l1 s) fun v2 s1 =>
  gB1 (gck s1 l0 2) fun _ =>
  gB2 (f_X9_has κ F l0 l1 s1) fun v5 s4 =>
  if v5 = 0 then
    gB2 (gnw s4 2 g0_X9 2) fun v7 s8 =>
    gB1 (gfR s8 l0 2 0) fun v9 =>
    gB2 (f_X9_more κ F v9 v2 l1 s8) fun v11 s10 =>
    gB1 (gfR s10 l0 2 1) fun v12 =>
    gB2 (f_X9_more κ F v12 v2 l2 s10) fun v14 s13 =>
    gB1 (gsm v7) fun _ =>
    gB2 (f_X9_init κ F v7 v11 v14 s13) fun v16 s15 =>
    some (v7, s15)
  else
    gB1 (gfR s4 l0 2 1) fun v18 =>
    gB2 (gcln κ s4 0 v18) fun v19 s20 =>
    gB1 (gct s20 v19 0) fun _ =>
    gB1 (gsI κ s20 v19 v2 l2) fun s22 =>
    gB2 (gnw s22 2 g0_X9 2) fun v23 s24 =>
    gB1 (gfR s24 l0 2 0) fun v25 =>
    gB1 (gsm v23) fun _ =>
    gB2 (f_X9_init κ F v23 v25 v19 s24) fun v27 s26 =>
    some (v23, s26)
set_option maxHeartbeats 4000000 in
theorem w_X9_with_0 {E : gE} {F z0 n0 : Nat} {r : (Option Nat)} {s' : gS}   : ∀ (l0 : Option Nat) (l1 : Int32) (l2 : Int32)  (s : gS), f_X9_with_0 (gk E) F  l0 l1 l2 s = some (r, s') → W_X9_with E z0 n0 r s' 0 [(0, vR l0), (1, vI l1), (2, vI l2)] [] s := by
  intro l0 l1 l2 s hB
  unfold f_X9_with_0 at hB
  refine gw_aload_n 0 rfl dX9_with_0 ?_
  refine gw_iload_n 1 rfl dX9_with_1 ?_
  obtain ⟨u0, hu3, hB⟩ := gB1_some hB
  obtain ⟨v2, s1, hv2, hB⟩ := gB2_some hB
  refine gw_callV (y := yX9_placeOf) (lw_V q2067 q2068 q2069 q160 q2070) hdV_X9_placeOf gcl2 hu3 (As := [vI l1]) (rest := []) (m_X9_placeOf _ _ _ _ _ hv2) (Nat.le_of_ble_eq_true rfl) (Nat.le_of_ble_eq_true rfl) rfl (Nat.le_of_ble_eq_true rfl) dX9_with_2 (gCont_i ?_)
  refine gw_istore_n (L' := [(3, vI v2), (0, vR l0), (1, vI l1), (2, vI l2)]) (Nat.le_of_ble_eq_true rfl) rfl dX9_with_5 ?_
  refine gw_aload_n 1 rfl dX9_with_6 ?_
  refine gw_iload_n 2 rfl dX9_with_7 ?_
  obtain ⟨u0, hu6, hB⟩ := gB1_some hB
  obtain ⟨v5, s4, hv5, hB⟩ := gB2_some hB
  refine gw_callV (y := yX9_has) (lw_V q2196 q2064 q2065 q160 q2066) hdV_X9_has gcl2 hu6 (As := [vI l1]) (rest := []) (m_X9_has _ _ _ _ _ hv5) (Nat.le_of_ble_eq_true rfl) (Nat.le_of_ble_eq_true rfl) rfl (Nat.le_of_ble_eq_true rfl) dX9_with_8 (gCont_i ?_)
  refine gw_if_eq (tgt := 45) dX9_with_11 (by decide) (fun hcnd => ?_) (fun hcnd => ?_)
  · rw [if_pos hcnd] at hB
    obtain ⟨v7, s8, hv7, hB⟩ := gB2_some hB
    refine gw_new (C := RX9) (T := TX9) (N := 2) tyX9 tyX9_ok gcl2 in_X9 q2199 q2165 q160 g0_X9_ok hv7 dX9_with_45 ?_
    refine gw_dup rfl dX9_with_48 ?_
    refine gw_aload_n 1 rfl dX9_with_49 ?_
    obtain ⟨v9, hv9, hB⟩ := gB1_some hB
    refine gw_getf (C := RX9) (T := TX9) (N := 2) (k := 0) gcl2 (by decide) in_X9 q2170 (gfR_spec hv9) dX9_with_50 ?_
    refine gw_iload_n 0 rfl dX9_with_53 ?_
    refine gw_iload_n 2 rfl dX9_with_54 ?_
    obtain ⟨v11, s10, hv11, hB⟩ := gB2_some hB
    refine gw_callS (y := yX9_more) (lw_S q2201 q2185 q160 q2186) hdS_X9_more (As := [vR v9, vI v2, vI l1]) (rest := [vR v7, vR v7]) (m_X9_more _ _ _ _ _ _ hv11) (Nat.le_of_ble_eq_true rfl) (Nat.le_of_ble_eq_true rfl) rfl (Nat.le_of_ble_eq_true rfl) dX9_with_55 (gCont_i ?_)
    refine gw_aload_n 1 rfl dX9_with_58 ?_
    obtain ⟨v12, hv12, hB⟩ := gB1_some hB
    refine gw_getf (C := RX9) (T := TX9) (N := 2) (k := 1) gcl2 (by decide) in_X9 q2172 (gfR_spec hv12) dX9_with_59 ?_
    refine gw_iload_n 0 rfl dX9_with_62 ?_
    refine gw_iload_n 3 rfl dX9_with_63 ?_
    obtain ⟨v14, s13, hv14, hB⟩ := gB2_some hB
    refine gw_callS (y := yX9_more) (lw_S q2201 q2185 q160 q2186) hdS_X9_more (As := [vR v12, vI v2, vI l2]) (rest := [vR v11, vR v7, vR v7]) (m_X9_more _ _ _ _ _ _ hv14) (Nat.le_of_ble_eq_true rfl) (Nat.le_of_ble_eq_true rfl) rfl (Nat.le_of_ble_eq_true rfl) dX9_with_64 (gCont_i ?_)
    obtain ⟨u0, hu17, hB⟩ := gB1_some hB
    obtain ⟨v16, s15, hv16, hB⟩ := gB2_some hB
    refine gw_callI (y := yX9_init) (lw_meth q2168) q160 q2200 q2167 rfl hdS_X9_init (gsm_spec hu17) (As := [vR v11, vR v14]) (rest := [vR v7]) (m_X9_init _ _ _ _ _ _ hv16) (Nat.le_of_ble_eq_true rfl) (Nat.le_of_ble_eq_true rfl) rfl (Nat.le_of_ble_eq_true rfl) dX9_with_67 (gCont_v ?_)
    obtain ⟨rfl, rfl⟩ := Prod.mk.inj (Option.some.inj hB)
    exact gw_aret rfl (Or.inl ⟨_, rfl⟩) rfl rfl dX9_with_70
  · rw [if_neg hcnd] at hB
    refine gw_aload_n 1 rfl dX9_with_14 ?_
    obtain ⟨v18, hv18, hB⟩ := gB1_some hB
    refine gw_getf (C := RX9) (T := TX9) (N := 2) (k := 1) gcl2 (by decide) in_X9 q2172 (gfR_spec hv18) dX9_with_15 ?_
    obtain ⟨v19, s20, hv19, hB⟩ := gB2_some hB
    refine gw_clone (t := 0) (ad := "[I") rfl rfl (by decide) q2197 q1415 q552 q553 q1416 q1417 (Nat.le_of_ble_eq_true rfl) (Nat.le_of_ble_eq_true rfl) hv19 dX9_with_18 ?_
    obtain ⟨u0, hu21, hB⟩ := gB1_some hB
    refine gw_castA (t := 0) rfl (by decide) hu21 q2198 dX9_with_21 ?_
    refine gw_astore (L' := [(4, vR v19), (3, vI v2), (0, vR l0), (1, vI l1), (2, vI l2)]) (Nat.le_of_ble_eq_true rfl) rfl dX9_with_24 ?_
    refine gw_aload 0 rfl dX9_with_26 ?_
    refine gw_iload_n 1 rfl dX9_with_28 ?_
    refine gw_iload_n 4 rfl dX9_with_29 ?_
    obtain ⟨s22, hs22, hB⟩ := gB1_some hB
    refine gw_iastore hs22 dX9_with_30 ?_
    obtain ⟨v23, s24, hv23, hB⟩ := gB2_some hB
    refine gw_new (C := RX9) (T := TX9) (N := 2) tyX9 tyX9_ok gcl2 in_X9 q2199 q2165 q160 g0_X9_ok hv23 dX9_with_31 ?_
    refine gw_dup rfl dX9_with_34 ?_
    refine gw_aload_n 2 rfl dX9_with_35 ?_
    obtain ⟨v25, hv25, hB⟩ := gB1_some hB
    refine gw_getf (C := RX9) (T := TX9) (N := 2) (k := 0) gcl2 (by decide) in_X9 q2170 (gfR_spec hv25) dX9_with_36 ?_
    refine gw_aload 0 rfl dX9_with_39 ?_
    obtain ⟨u0, hu28, hB⟩ := gB1_some hB
    obtain ⟨v27, s26, hv27, hB⟩ := gB2_some hB
    refine gw_callI (y := yX9_init) (lw_meth q2168) q160 q2200 q2167 rfl hdS_X9_init (gsm_spec hu28) (As := [vR v25, vR v19]) (rest := [vR v23]) (m_X9_init _ _ _ _ _ _ hv27) (Nat.le_of_ble_eq_true rfl) (Nat.le_of_ble_eq_true rfl) rfl (Nat.le_of_ble_eq_true rfl) dX9_with_41 (gCont_v ?_)
    obtain ⟨rfl, rfl⟩ := Prod.mk.inj (Option.some.inj hB)
    exact gw_aret rfl (Or.inl ⟨_, rfl⟩) rfl rfl dX9_with_44
noncomputable def f_X9_with (κ : gK) (F : Nat) (a0 : Option Nat) (a1 : Int32) (a2 : Int32) (s : gS) : Option ((Option Nat) × gS) := f_X9_with_0 κ F a0 a1 a2 s
theorem m_X9_with {E : gE} {F : Nat} (a0 : Option Nat) (a1 : Int32) (a2 : Int32) (s : gS) (r : (Option Nat)) (s' : gS) (h : f_X9_with (gk E) F a0 a1 a2 s = some (r, s')) : gCT E 3 yX9_with (ws_ yX9_with cX9_with 5 (some (FieldType.object "PageGarden$Leaf"))) [vR a0, vI a1, vI a2] s (.inl (some (vR r))) s' := by
  refine gCT_of2 (fun h => absurd h (by decide)) (plainFor_of_name (by decide)) (Nat.le_of_ble_eq_true rfl) ?_
  exact gw_sub [0, 1, 2] rfl (w_X9_with_0 _ _ _ _ h)
def dkwX9_cut_0 : List UInt8 := [28, 27, 100, 188, 10, 78, 42, 27, 45, 3, 28, 27, 100, 184, 0, 20, 45, 176]
abbrev dktX9_cut_0 : List UInt8 := dkwX9_cut_0 ++ []
theorem dksX9_cut_0 : cX9_cut.data.toList.drop 0 = dktX9_cut_0 := by decide +kernel
theorem dX9_cut_0 : decode cX9_cut 0 = .ok (.iload_n 2, 1) := dk_28 (dk_at dksX9_cut_0 0 rfl rfl)
theorem dX9_cut_1 : decode cX9_cut 1 = .ok (.iload_n 1, 1) := dk_27 (dk_at dksX9_cut_0 1 rfl rfl)
theorem dX9_cut_2 : decode cX9_cut 2 = .ok (.isub, 1) := dk_100 (dk_at dksX9_cut_0 2 rfl rfl)
theorem dX9_cut_3 : decode cX9_cut 3 = .ok (.newarray .int, 2) := dk_188_10 (dk_at dksX9_cut_0 3 rfl rfl)
theorem dX9_cut_5 : decode cX9_cut 5 = .ok (.astore_n 3, 1) := dk_78 (dk_at dksX9_cut_0 5 rfl rfl)
theorem dX9_cut_6 : decode cX9_cut 6 = .ok (.aload_n 0, 1) := dk_42 (dk_at dksX9_cut_0 6 rfl rfl)
theorem dX9_cut_7 : decode cX9_cut 7 = .ok (.iload_n 1, 1) := dk_27 (dk_at dksX9_cut_0 7 rfl rfl)
theorem dX9_cut_8 : decode cX9_cut 8 = .ok (.aload_n 3, 1) := dk_45 (dk_at dksX9_cut_0 8 rfl rfl)
theorem dX9_cut_9 : decode cX9_cut 9 = .ok (.iconst 0, 1) := dk_3 (dk_at dksX9_cut_0 9 rfl rfl)
theorem dX9_cut_10 : decode cX9_cut 10 = .ok (.iload_n 2, 1) := dk_28 (dk_at dksX9_cut_0 10 rfl rfl)
theorem dX9_cut_11 : decode cX9_cut 11 = .ok (.iload_n 1, 1) := dk_27 (dk_at dksX9_cut_0 11 rfl rfl)
theorem dX9_cut_12 : decode cX9_cut 12 = .ok (.isub, 1) := dk_100 (dk_at dksX9_cut_0 12 rfl rfl)
theorem dX9_cut_13 : decode cX9_cut 13 = .ok (.invokestatic 20, 3) := dk_184 0 20 (dk_at dksX9_cut_0 13 rfl rfl)
theorem dX9_cut_16 : decode cX9_cut 16 = .ok (.aload_n 3, 1) := dk_45 (dk_at dksX9_cut_0 16 rfl rfl)
theorem dX9_cut_17 : decode cX9_cut 17 = .ok (.areturn, 1) := dk_176 (dk_at dksX9_cut_0 17 rfl rfl)
/-! PageGarden$Leaf.cut([III)[I -/
abbrev M_X9_cut (z0 n0 : Nat) (s' : gS) : gM := (RX9, cX9_cut, 4, (some (FieldType.array FieldType.int)), "cut", [], 1, z0, n0, s'.2.1, s'.2.2)
abbrev W_X9_cut (E : gE) (z0 n0 : Nat) (r : (Option Nat)) (s' : gS) (pc : Nat) (L : List (Nat × gV)) (st : List gV) (s : gS) : Prop := gW E (M_X9_cut z0 n0 s') (gQm E (M_X9_cut z0 n0 s') (.inl (some (vR r))) s') pc L st s
noncomputable def f_X9_cut_0 (κ : gK) (F : Nat)  (l0 : Option Nat) (l1 : Int32) (l2 : Int32) (s : gS) : Option ((Option Nat) × gS) :=
  gB2 (gna s 0 (l2 - l1)) fun v1 s2 =>
  gB1 (gcpI κ s2 0 l0 l1 v1 (0 : Int32) (l2 - l1)) fun s3 =>
  some (v1, s3)
set_option maxHeartbeats 4000000 in
theorem w_X9_cut_0 {E : gE} {F z0 n0 : Nat} {r : (Option Nat)} {s' : gS}   : ∀ (l0 : Option Nat) (l1 : Int32) (l2 : Int32)  (s : gS), f_X9_cut_0 (gk E) F  l0 l1 l2 s = some (r, s') → W_X9_cut E z0 n0 r s' 0 [(0, vR l0), (1, vI l1), (2, vI l2)] [] s := by
  intro l0 l1 l2 s hB
  unfold f_X9_cut_0 at hB
  refine gw_iload_n 2 rfl dX9_cut_0 ?_
  refine gw_iload_n 1 rfl dX9_cut_1 ?_
  refine gw_isub dX9_cut_2 ?_
  obtain ⟨v1, s2, hv1, hB⟩ := gB2_some hB
  refine gw_newarr (atype := .int) (t := 0) rfl rfl rfl (by decide) rfl q211 hv1 dX9_cut_3 ?_
  refine gw_astore_n (L' := [(3, vR v1), (0, vR l0), (1, vI l1), (2, vI l2)]) (Nat.le_of_ble_eq_true rfl) rfl dX9_cut_5 ?_
  refine gw_aload_n 1 rfl dX9_cut_6 ?_
  refine gw_iload_n 2 rfl dX9_cut_7 ?_
  refine gw_aload_n 0 rfl dX9_cut_8 ?_
  refine gw_iconst (v := (0 : Int32)) (by decide) dX9_cut_9 ?_
  refine gw_iload_n 3 rfl dX9_cut_10 ?_
  refine gw_iload_n 2 rfl dX9_cut_11 ?_
  refine gw_isub dX9_cut_12 ?_
  obtain ⟨s3, hs3, hB⟩ := gB1_some hB
  refine gw_copyI (t := 0) rfl rfl q2219 q562 q561 q118 (Nat.le_of_ble_eq_true rfl) (Nat.le_of_ble_eq_true rfl) hs3 dX9_cut_13 ?_
  refine gw_aload_n 0 rfl dX9_cut_16 ?_
  obtain ⟨rfl, rfl⟩ := Prod.mk.inj (Option.some.inj hB)
  exact gw_aret rfl (Or.inr ⟨_, rfl⟩) rfl rfl dX9_cut_17
noncomputable def f_X9_cut (κ : gK) (F : Nat) (a1 : Option Nat) (a2 : Int32) (a3 : Int32) (s : gS) : Option ((Option Nat) × gS) := f_X9_cut_0 κ F a1 a2 a3 s
theorem m_X9_cut {E : gE} {F : Nat} (a1 : Option Nat) (a2 : Int32) (a3 : Int32) (s : gS) (r : (Option Nat)) (s' : gS) (h : f_X9_cut (gk E) F a1 a2 a3 s = some (r, s')) : gCT E 1 yX9_cut (ws_ yX9_cut cX9_cut 4 (some (FieldType.array FieldType.int))) [vR a1, vI a2, vI a3] s (.inl (some (vR r))) s' := by
  refine gCT_of2 (fun h => absurd h (by decide)) (plainFor_of_name (by decide)) (Nat.le_of_ble_eq_true rfl) ?_
  exact gw_sub [0, 1, 2] rfl (w_X9_cut_0 _ _ _ _ h)
def dkwX9_part_1 : List UInt8 := [183, 0, 35, 176]
abbrev dktX9_part_1 : List UInt8 := dkwX9_part_1 ++ []
def dkwX9_part_0 : List UInt8 := [187, 0, 8, 89, 42, 180, 0, 7, 27, 28, 184, 0, 42, 42, 180, 0, 13, 27, 28, 184, 0, 42]
abbrev dktX9_part_0 : List UInt8 := dkwX9_part_0 ++ dktX9_part_1
theorem dksX9_part_0 : cX9_part.data.toList.drop 0 = dktX9_part_0 := by decide +kernel
theorem dksX9_part_1 : cX9_part.data.toList.drop 22 = dktX9_part_1 := dk_seg dksX9_part_0 22 rfl rfl
theorem dX9_part_0 : decode cX9_part 0 = .ok (.new 8, 3) := dk_187 0 8 (dk_at dksX9_part_0 0 rfl rfl)
theorem dX9_part_3 : decode cX9_part 3 = .ok (.dup, 1) := dk_89 (dk_at dksX9_part_0 3 rfl rfl)
theorem dX9_part_4 : decode cX9_part 4 = .ok (.aload_n 0, 1) := dk_42 (dk_at dksX9_part_0 4 rfl rfl)
theorem dX9_part_5 : decode cX9_part 5 = .ok (.getfield 7, 3) := dk_180 0 7 (dk_at dksX9_part_0 5 rfl rfl)
theorem dX9_part_8 : decode cX9_part 8 = .ok (.iload_n 1, 1) := dk_27 (dk_at dksX9_part_0 8 rfl rfl)
theorem dX9_part_9 : decode cX9_part 9 = .ok (.iload_n 2, 1) := dk_28 (dk_at dksX9_part_0 9 rfl rfl)
theorem dX9_part_10 : decode cX9_part 10 = .ok (.invokestatic 42, 3) := dk_184 0 42 (dk_at dksX9_part_0 10 rfl rfl)
theorem dX9_part_13 : decode cX9_part 13 = .ok (.aload_n 0, 1) := dk_42 (dk_at dksX9_part_0 13 rfl rfl)
theorem dX9_part_14 : decode cX9_part 14 = .ok (.getfield 13, 3) := dk_180 0 13 (dk_at dksX9_part_0 14 rfl rfl)
theorem dX9_part_17 : decode cX9_part 17 = .ok (.iload_n 1, 1) := dk_27 (dk_at dksX9_part_0 17 rfl rfl)
theorem dX9_part_18 : decode cX9_part 18 = .ok (.iload_n 2, 1) := dk_28 (dk_at dksX9_part_0 18 rfl rfl)
theorem dX9_part_19 : decode cX9_part 19 = .ok (.invokestatic 42, 3) := dk_184 0 42 (dk_at dksX9_part_0 19 rfl rfl)
theorem dX9_part_22 : decode cX9_part 22 = .ok (.invokespecial 35, 3) := dk_183 0 35 (dk_at dksX9_part_1 0 rfl rfl)
theorem dX9_part_25 : decode cX9_part 25 = .ok (.areturn, 1) := dk_176 (dk_at dksX9_part_1 3 rfl rfl)
/-! PageGarden$Leaf.part(II)LPageGarden$Leaf; -/
abbrev M_X9_part (z0 n0 : Nat) (s' : gS) : gM := (RX9, cX9_part, 3, (some (FieldType.object "PageGarden$Leaf")), "part", [], 2, z0, n0, s'.2.1, s'.2.2)
abbrev W_X9_part (E : gE) (z0 n0 : Nat) (r : (Option Nat)) (s' : gS) (pc : Nat) (L : List (Nat × gV)) (st : List gV) (s : gS) : Prop := gW E (M_X9_part z0 n0 s') (gQm E (M_X9_part z0 n0 s') (.inl (some (vR r))) s') pc L st s
noncomputable def f_X9_part_0 (κ : gK) (F : Nat)  (l0 : Option Nat) (l1 : Int32) (l2 : Int32) (s : gS) : Option ((Option Nat) × gS) :=
  gB2 (gnw s 2 g0_X9 2) fun v1 s2 =>
  gB1 (gfR s2 l0 2 0) fun v3 =>
  gB2 (f_X9_cut κ F v3 l1 l2 s2) fun v5 s4 =>
  gB1 (gfR s4 l0 2 1) fun v6 =>
  gB2 (f_X9_cut κ F v6 l1 l2 s4) fun v8 s7 =>
  gB1 (gsm v1) fun _ =>
  gB2 (f_X9_init κ F v1 v5 v8 s7) fun v10 s9 =>
  some (v1, s9)
set_option maxHeartbeats 4000000 in
theorem w_X9_part_0 {E : gE} {F z0 n0 : Nat} {r : (Option Nat)} {s' : gS}   : ∀ (l0 : Option Nat) (l1 : Int32) (l2 : Int32)  (s : gS), f_X9_part_0 (gk E) F  l0 l1 l2 s = some (r, s') → W_X9_part E z0 n0 r s' 0 [(0, vR l0), (1, vI l1), (2, vI l2)] [] s := by
  intro l0 l1 l2 s hB
  unfold f_X9_part_0 at hB
  obtain ⟨v1, s2, hv1, hB⟩ := gB2_some hB
  refine gw_new (C := RX9) (T := TX9) (N := 2) tyX9 tyX9_ok gcl2 in_X9 q2199 q2165 q160 g0_X9_ok hv1 dX9_part_0 ?_
  refine gw_dup rfl dX9_part_3 ?_
  refine gw_aload_n 0 rfl dX9_part_4 ?_
  obtain ⟨v3, hv3, hB⟩ := gB1_some hB
  refine gw_getf (C := RX9) (T := TX9) (N := 2) (k := 0) gcl2 (by decide) in_X9 q2170 (gfR_spec hv3) dX9_part_5 ?_
  refine gw_iload_n 1 rfl dX9_part_8 ?_
  refine gw_iload_n 2 rfl dX9_part_9 ?_
  obtain ⟨v5, s4, hv5, hB⟩ := gB2_some hB
  refine gw_callS (y := yX9_cut) (lw_S q2216 q2217 q160 q2218) hdS_X9_cut (As := [vR v3, vI l1, vI l2]) (rest := [vR v1, vR v1]) (m_X9_cut _ _ _ _ _ _ hv5) (Nat.le_of_ble_eq_true rfl) (Nat.le_of_ble_eq_true rfl) rfl (Nat.le_of_ble_eq_true rfl) dX9_part_10 (gCont_i ?_)
  refine gw_aload_n 0 rfl dX9_part_13 ?_
  obtain ⟨v6, hv6, hB⟩ := gB1_some hB
  refine gw_getf (C := RX9) (T := TX9) (N := 2) (k := 1) gcl2 (by decide) in_X9 q2172 (gfR_spec hv6) dX9_part_14 ?_
  refine gw_iload_n 1 rfl dX9_part_17 ?_
  refine gw_iload_n 2 rfl dX9_part_18 ?_
  obtain ⟨v8, s7, hv8, hB⟩ := gB2_some hB
  refine gw_callS (y := yX9_cut) (lw_S q2216 q2217 q160 q2218) hdS_X9_cut (As := [vR v6, vI l1, vI l2]) (rest := [vR v5, vR v1, vR v1]) (m_X9_cut _ _ _ _ _ _ hv8) (Nat.le_of_ble_eq_true rfl) (Nat.le_of_ble_eq_true rfl) rfl (Nat.le_of_ble_eq_true rfl) dX9_part_19 (gCont_i ?_)
  obtain ⟨u0, hu11, hB⟩ := gB1_some hB
  obtain ⟨v10, s9, hv10, hB⟩ := gB2_some hB
  refine gw_callI (y := yX9_init) (lw_meth q2168) q160 q2200 q2167 rfl hdS_X9_init (gsm_spec hu11) (As := [vR v5, vR v8]) (rest := [vR v1]) (m_X9_init _ _ _ _ _ _ hv10) (Nat.le_of_ble_eq_true rfl) (Nat.le_of_ble_eq_true rfl) rfl (Nat.le_of_ble_eq_true rfl) dX9_part_22 (gCont_v ?_)
  obtain ⟨rfl, rfl⟩ := Prod.mk.inj (Option.some.inj hB)
  exact gw_aret rfl (Or.inl ⟨_, rfl⟩) rfl rfl dX9_part_25
noncomputable def f_X9_part (κ : gK) (F : Nat) (a0 : Option Nat) (a1 : Int32) (a2 : Int32) (s : gS) : Option ((Option Nat) × gS) := f_X9_part_0 κ F a0 a1 a2 s
theorem m_X9_part {E : gE} {F : Nat} (a0 : Option Nat) (a1 : Int32) (a2 : Int32) (s : gS) (r : (Option Nat)) (s' : gS) (h : f_X9_part (gk E) F a0 a1 a2 s = some (r, s')) : gCT E 2 yX9_part (ws_ yX9_part cX9_part 3 (some (FieldType.object "PageGarden$Leaf"))) [vR a0, vI a1, vI a2] s (.inl (some (vR r))) s' := by
  refine gCT_of2 (fun h => absurd h (by decide)) (plainFor_of_name (by decide)) (Nat.le_of_ble_eq_true rfl) ?_
  exact gw_sub [0, 1, 2] rfl (w_X9_part_0 _ _ _ _ h)
def dkwX3_put_8 : List UInt8 := [180, 0, 230, 182, 0, 123, 21, 5, 4, 96, 21, 7, 182, 1, 46, 182, 0, 245, 29, 172]
abbrev dktX3_put_8 : List UInt8 := dkwX3_put_8 ++ []
def dkwX3_put_7 : List UInt8 := [25, 6, 6, 25, 6, 182, 0, 249, 182, 1, 56, 182, 0, 234, 54, 7, 42, 42, 42, 180, 0, 80]
abbrev dktX3_put_7 : List UInt8 := dkwX3_put_7 ++ dktX3_put_8
def dkwX3_put_6 : List UInt8 := [21, 5, 25, 6, 182, 1, 52, 167, 0, 57, 42, 21, 5, 25, 6, 3, 6, 182, 1, 56, 182, 1, 52, 42]
abbrev dktX3_put_6 : List UInt8 := dkwX3_put_6 ++ dktX3_put_7
def dkwX3_put_5 : List UInt8 := [21, 5, 46, 182, 0, 116, 27, 28, 182, 1, 49, 58, 6, 25, 6, 182, 0, 249, 7, 163, 0, 14, 42]
abbrev dktX3_put_5 : List UInt8 := dkwX3_put_5 ++ dktX3_put_6
def dkwX3_put_4 : List UInt8 := [182, 1, 46, 182, 0, 245, 29, 172, 42, 25, 4, 27, 182, 0, 127, 54, 5, 42, 25, 4, 180, 0, 113]
abbrev dktX3_put_4 : List UInt8 := dkwX3_put_4 ++ dktX3_put_5
def dkwX3_put_3 : List UInt8 := [187, 0, 100, 89, 4, 188, 10, 89, 3, 27, 79, 4, 188, 10, 89, 3, 28, 79, 183, 1, 43, 182, 0, 234]
abbrev dktX3_put_3 : List UInt8 := dkwX3_put_3 ++ dktX3_put_4
def dkwX3_put_2 : List UInt8 := [182, 1, 36, 62, 42, 182, 1, 39, 58, 4, 25, 4, 180, 0, 113, 190, 154, 0, 40, 42, 25, 4, 3, 42]
abbrev dktX3_put_2 : List UInt8 := dkwX3_put_2 ++ dktX3_put_3
def dkwX3_put_1 : List UInt8 := [182, 0, 227, 42, 27, 182, 1, 31, 154, 0, 7, 4, 167, 0, 4, 3, 19, 1, 34, 184, 0, 183, 42, 27]
abbrev dktX3_put_1 : List UInt8 := dkwX3_put_1 ++ dktX3_put_2
def dkwX3_put_0 : List UInt8 := [27, 184, 1, 18, 28, 133, 20, 1, 21, 20, 1, 23, 184, 1, 25, 19, 1, 29, 184, 1, 15, 42]
abbrev dktX3_put_0 : List UInt8 := dkwX3_put_0 ++ dktX3_put_1
theorem dksX3_put_0 : cX3_put.data.toList.drop 0 = dktX3_put_0 := by decide +kernel
theorem dksX3_put_1 : cX3_put.data.toList.drop 22 = dktX3_put_1 := dk_seg dksX3_put_0 22 rfl rfl
theorem dksX3_put_2 : cX3_put.data.toList.drop 46 = dktX3_put_2 := dk_seg dksX3_put_1 24 rfl rfl
theorem dksX3_put_3 : cX3_put.data.toList.drop 70 = dktX3_put_3 := dk_seg dksX3_put_2 24 rfl rfl
theorem dksX3_put_4 : cX3_put.data.toList.drop 94 = dktX3_put_4 := dk_seg dksX3_put_3 24 rfl rfl
theorem dksX3_put_5 : cX3_put.data.toList.drop 117 = dktX3_put_5 := dk_seg dksX3_put_4 23 rfl rfl
theorem dksX3_put_6 : cX3_put.data.toList.drop 140 = dktX3_put_6 := dk_seg dksX3_put_5 23 rfl rfl
theorem dksX3_put_7 : cX3_put.data.toList.drop 164 = dktX3_put_7 := dk_seg dksX3_put_6 24 rfl rfl
theorem dksX3_put_8 : cX3_put.data.toList.drop 186 = dktX3_put_8 := dk_seg dksX3_put_7 22 rfl rfl
theorem dX3_put_0 : decode cX3_put 0 = .ok (.iload_n 1, 1) := dk_27 (dk_at dksX3_put_0 0 rfl rfl)
theorem dX3_put_1 : decode cX3_put 1 = .ok (.invokestatic 274, 3) := dk_184 1 18 (dk_at dksX3_put_0 1 rfl rfl)
theorem dX3_put_4 : decode cX3_put 4 = .ok (.iload_n 2, 1) := dk_28 (dk_at dksX3_put_0 4 rfl rfl)
theorem dX3_put_5 : decode cX3_put 5 = .ok (.i2l, 1) := dk_133 (dk_at dksX3_put_0 5 rfl rfl)
theorem dX3_put_6 : decode cX3_put 6 = .ok (.ldc2_w 277, 3) := dk_20 1 21 (dk_at dksX3_put_0 6 rfl rfl)
theorem dX3_put_9 : decode cX3_put 9 = .ok (.ldc2_w 279, 3) := dk_20 1 23 (dk_at dksX3_put_0 9 rfl rfl)
theorem dX3_put_12 : decode cX3_put 12 = .ok (.invokestatic 281, 3) := dk_184 1 25 (dk_at dksX3_put_0 12 rfl rfl)
theorem dX3_put_15 : decode cX3_put 15 = .ok (.ldc_w 285, 3) := dk_19 1 29 (dk_at dksX3_put_0 15 rfl rfl)
theorem dX3_put_18 : decode cX3_put 18 = .ok (.invokestatic 271, 3) := dk_184 1 15 (dk_at dksX3_put_0 18 rfl rfl)
theorem dX3_put_21 : decode cX3_put 21 = .ok (.aload_n 0, 1) := dk_42 (dk_at dksX3_put_0 21 rfl rfl)
theorem dX3_put_22 : decode cX3_put 22 = .ok (.invokevirtual 227, 3) := dk_182 0 227 (dk_at dksX3_put_1 0 rfl rfl)
theorem dX3_put_25 : decode cX3_put 25 = .ok (.aload_n 0, 1) := dk_42 (dk_at dksX3_put_1 3 rfl rfl)
theorem dX3_put_26 : decode cX3_put 26 = .ok (.iload_n 1, 1) := dk_27 (dk_at dksX3_put_1 4 rfl rfl)
theorem dX3_put_27 : decode cX3_put 27 = .ok (.invokevirtual 287, 3) := dk_182 1 31 (dk_at dksX3_put_1 5 rfl rfl)
theorem dX3_put_30 : decode cX3_put 30 = .ok (.ifCond .ne 7, 3) := dk_154 0 7 (dk_at dksX3_put_1 8 rfl rfl)
theorem dX3_put_33 : decode cX3_put 33 = .ok (.iconst 1, 1) := dk_4 (dk_at dksX3_put_1 11 rfl rfl)
theorem dX3_put_34 : decode cX3_put 34 = .ok (.goto 4, 3) := dk_167 0 4 (dk_at dksX3_put_1 12 rfl rfl)
theorem dX3_put_37 : decode cX3_put 37 = .ok (.iconst 0, 1) := dk_3 (dk_at dksX3_put_1 15 rfl rfl)
theorem dX3_put_38 : decode cX3_put 38 = .ok (.ldc_w 290, 3) := dk_19 1 34 (dk_at dksX3_put_1 16 rfl rfl)
theorem dX3_put_41 : decode cX3_put 41 = .ok (.invokestatic 183, 3) := dk_184 0 183 (dk_at dksX3_put_1 19 rfl rfl)
theorem dX3_put_44 : decode cX3_put 44 = .ok (.aload_n 0, 1) := dk_42 (dk_at dksX3_put_1 22 rfl rfl)
theorem dX3_put_45 : decode cX3_put 45 = .ok (.iload_n 1, 1) := dk_27 (dk_at dksX3_put_1 23 rfl rfl)
theorem dX3_put_46 : decode cX3_put 46 = .ok (.invokevirtual 292, 3) := dk_182 1 36 (dk_at dksX3_put_2 0 rfl rfl)
theorem dX3_put_49 : decode cX3_put 49 = .ok (.istore_n 3, 1) := dk_62 (dk_at dksX3_put_2 3 rfl rfl)
theorem dX3_put_50 : decode cX3_put 50 = .ok (.aload_n 0, 1) := dk_42 (dk_at dksX3_put_2 4 rfl rfl)
theorem dX3_put_51 : decode cX3_put 51 = .ok (.invokevirtual 295, 3) := dk_182 1 39 (dk_at dksX3_put_2 5 rfl rfl)
theorem dX3_put_54 : decode cX3_put 54 = .ok (.astore 4, 2) := dk_58 4 (dk_at dksX3_put_2 8 rfl rfl)
theorem dX3_put_56 : decode cX3_put 56 = .ok (.aload 4, 2) := dk_25 4 (dk_at dksX3_put_2 10 rfl rfl)
theorem dX3_put_58 : decode cX3_put 58 = .ok (.getfield 113, 3) := dk_180 0 113 (dk_at dksX3_put_2 12 rfl rfl)
theorem dX3_put_61 : decode cX3_put 61 = .ok (.arraylength, 1) := dk_190 (dk_at dksX3_put_2 15 rfl rfl)
theorem dX3_put_62 : decode cX3_put 62 = .ok (.ifCond .ne 40, 3) := dk_154 0 40 (dk_at dksX3_put_2 16 rfl rfl)
theorem dX3_put_65 : decode cX3_put 65 = .ok (.aload_n 0, 1) := dk_42 (dk_at dksX3_put_2 19 rfl rfl)
theorem dX3_put_66 : decode cX3_put 66 = .ok (.aload 4, 2) := dk_25 4 (dk_at dksX3_put_2 20 rfl rfl)
theorem dX3_put_68 : decode cX3_put 68 = .ok (.iconst 0, 1) := dk_3 (dk_at dksX3_put_2 22 rfl rfl)
theorem dX3_put_69 : decode cX3_put 69 = .ok (.aload_n 0, 1) := dk_42 (dk_at dksX3_put_2 23 rfl rfl)
theorem dX3_put_70 : decode cX3_put 70 = .ok (.new 100, 3) := dk_187 0 100 (dk_at dksX3_put_3 0 rfl rfl)
theorem dX3_put_73 : decode cX3_put 73 = .ok (.dup, 1) := dk_89 (dk_at dksX3_put_3 3 rfl rfl)
theorem dX3_put_74 : decode cX3_put 74 = .ok (.iconst 1, 1) := dk_4 (dk_at dksX3_put_3 4 rfl rfl)
theorem dX3_put_75 : decode cX3_put 75 = .ok (.newarray .int, 2) := dk_188_10 (dk_at dksX3_put_3 5 rfl rfl)
theorem dX3_put_77 : decode cX3_put 77 = .ok (.dup, 1) := dk_89 (dk_at dksX3_put_3 7 rfl rfl)
theorem dX3_put_78 : decode cX3_put 78 = .ok (.iconst 0, 1) := dk_3 (dk_at dksX3_put_3 8 rfl rfl)
theorem dX3_put_79 : decode cX3_put 79 = .ok (.iload_n 1, 1) := dk_27 (dk_at dksX3_put_3 9 rfl rfl)
theorem dX3_put_80 : decode cX3_put 80 = .ok (.iastore, 1) := dk_79 (dk_at dksX3_put_3 10 rfl rfl)
theorem dX3_put_81 : decode cX3_put 81 = .ok (.iconst 1, 1) := dk_4 (dk_at dksX3_put_3 11 rfl rfl)
theorem dX3_put_82 : decode cX3_put 82 = .ok (.newarray .int, 2) := dk_188_10 (dk_at dksX3_put_3 12 rfl rfl)
theorem dX3_put_84 : decode cX3_put 84 = .ok (.dup, 1) := dk_89 (dk_at dksX3_put_3 14 rfl rfl)
theorem dX3_put_85 : decode cX3_put 85 = .ok (.iconst 0, 1) := dk_3 (dk_at dksX3_put_3 15 rfl rfl)
theorem dX3_put_86 : decode cX3_put 86 = .ok (.iload_n 2, 1) := dk_28 (dk_at dksX3_put_3 16 rfl rfl)
theorem dX3_put_87 : decode cX3_put 87 = .ok (.iastore, 1) := dk_79 (dk_at dksX3_put_3 17 rfl rfl)
theorem dX3_put_88 : decode cX3_put 88 = .ok (.invokespecial 299, 3) := dk_183 1 43 (dk_at dksX3_put_3 18 rfl rfl)
theorem dX3_put_91 : decode cX3_put 91 = .ok (.invokevirtual 234, 3) := dk_182 0 234 (dk_at dksX3_put_3 21 rfl rfl)
theorem dX3_put_94 : decode cX3_put 94 = .ok (.invokevirtual 302, 3) := dk_182 1 46 (dk_at dksX3_put_4 0 rfl rfl)
theorem dX3_put_97 : decode cX3_put 97 = .ok (.invokevirtual 245, 3) := dk_182 0 245 (dk_at dksX3_put_4 3 rfl rfl)
theorem dX3_put_100 : decode cX3_put 100 = .ok (.iload_n 3, 1) := dk_29 (dk_at dksX3_put_4 6 rfl rfl)
theorem dX3_put_101 : decode cX3_put 101 = .ok (.ireturn, 1) := dk_172 (dk_at dksX3_put_4 7 rfl rfl)
theorem dX3_put_102 : decode cX3_put 102 = .ok (.aload_n 0, 1) := dk_42 (dk_at dksX3_put_4 8 rfl rfl)
theorem dX3_put_103 : decode cX3_put 103 = .ok (.aload 4, 2) := dk_25 4 (dk_at dksX3_put_4 9 rfl rfl)
theorem dX3_put_105 : decode cX3_put 105 = .ok (.iload_n 1, 1) := dk_27 (dk_at dksX3_put_4 11 rfl rfl)
theorem dX3_put_106 : decode cX3_put 106 = .ok (.invokevirtual 127, 3) := dk_182 0 127 (dk_at dksX3_put_4 12 rfl rfl)
theorem dX3_put_109 : decode cX3_put 109 = .ok (.istore 5, 2) := dk_54 5 (dk_at dksX3_put_4 15 rfl rfl)
theorem dX3_put_111 : decode cX3_put 111 = .ok (.aload_n 0, 1) := dk_42 (dk_at dksX3_put_4 17 rfl rfl)
theorem dX3_put_112 : decode cX3_put 112 = .ok (.aload 4, 2) := dk_25 4 (dk_at dksX3_put_4 18 rfl rfl)
theorem dX3_put_114 : decode cX3_put 114 = .ok (.getfield 113, 3) := dk_180 0 113 (dk_at dksX3_put_4 20 rfl rfl)
theorem dX3_put_117 : decode cX3_put 117 = .ok (.iload 5, 2) := dk_21 5 (dk_at dksX3_put_5 0 rfl rfl)
theorem dX3_put_119 : decode cX3_put 119 = .ok (.iaload, 1) := dk_46 (dk_at dksX3_put_5 2 rfl rfl)
theorem dX3_put_120 : decode cX3_put 120 = .ok (.invokevirtual 116, 3) := dk_182 0 116 (dk_at dksX3_put_5 3 rfl rfl)
theorem dX3_put_123 : decode cX3_put 123 = .ok (.iload_n 1, 1) := dk_27 (dk_at dksX3_put_5 6 rfl rfl)
theorem dX3_put_124 : decode cX3_put 124 = .ok (.iload_n 2, 1) := dk_28 (dk_at dksX3_put_5 7 rfl rfl)
theorem dX3_put_125 : decode cX3_put 125 = .ok (.invokevirtual 305, 3) := dk_182 1 49 (dk_at dksX3_put_5 8 rfl rfl)
theorem dX3_put_128 : decode cX3_put 128 = .ok (.astore 6, 2) := dk_58 6 (dk_at dksX3_put_5 11 rfl rfl)
theorem dX3_put_130 : decode cX3_put 130 = .ok (.aload 6, 2) := dk_25 6 (dk_at dksX3_put_5 13 rfl rfl)
theorem dX3_put_132 : decode cX3_put 132 = .ok (.invokevirtual 249, 3) := dk_182 0 249 (dk_at dksX3_put_5 15 rfl rfl)
theorem dX3_put_135 : decode cX3_put 135 = .ok (.iconst 4, 1) := dk_7 (dk_at dksX3_put_5 18 rfl rfl)
theorem dX3_put_136 : decode cX3_put 136 = .ok (.if_icmp .gt 14, 3) := dk_163 0 14 (dk_at dksX3_put_5 19 rfl rfl)
theorem dX3_put_139 : decode cX3_put 139 = .ok (.aload_n 0, 1) := dk_42 (dk_at dksX3_put_5 22 rfl rfl)
theorem dX3_put_140 : decode cX3_put 140 = .ok (.iload 5, 2) := dk_21 5 (dk_at dksX3_put_6 0 rfl rfl)
theorem dX3_put_142 : decode cX3_put 142 = .ok (.aload 6, 2) := dk_25 6 (dk_at dksX3_put_6 2 rfl rfl)
theorem dX3_put_144 : decode cX3_put 144 = .ok (.invokevirtual 308, 3) := dk_182 1 52 (dk_at dksX3_put_6 4 rfl rfl)
theorem dX3_put_147 : decode cX3_put 147 = .ok (.goto 57, 3) := dk_167 0 57 (dk_at dksX3_put_6 7 rfl rfl)
theorem dX3_put_150 : decode cX3_put 150 = .ok (.aload_n 0, 1) := dk_42 (dk_at dksX3_put_6 10 rfl rfl)
theorem dX3_put_151 : decode cX3_put 151 = .ok (.iload 5, 2) := dk_21 5 (dk_at dksX3_put_6 11 rfl rfl)
theorem dX3_put_153 : decode cX3_put 153 = .ok (.aload 6, 2) := dk_25 6 (dk_at dksX3_put_6 13 rfl rfl)
theorem dX3_put_155 : decode cX3_put 155 = .ok (.iconst 0, 1) := dk_3 (dk_at dksX3_put_6 15 rfl rfl)
theorem dX3_put_156 : decode cX3_put 156 = .ok (.iconst 3, 1) := dk_6 (dk_at dksX3_put_6 16 rfl rfl)
theorem dX3_put_157 : decode cX3_put 157 = .ok (.invokevirtual 312, 3) := dk_182 1 56 (dk_at dksX3_put_6 17 rfl rfl)
theorem dX3_put_160 : decode cX3_put 160 = .ok (.invokevirtual 308, 3) := dk_182 1 52 (dk_at dksX3_put_6 20 rfl rfl)
theorem dX3_put_163 : decode cX3_put 163 = .ok (.aload_n 0, 1) := dk_42 (dk_at dksX3_put_6 23 rfl rfl)
theorem dX3_put_164 : decode cX3_put 164 = .ok (.aload 6, 2) := dk_25 6 (dk_at dksX3_put_7 0 rfl rfl)
theorem dX3_put_166 : decode cX3_put 166 = .ok (.iconst 3, 1) := dk_6 (dk_at dksX3_put_7 2 rfl rfl)
theorem dX3_put_167 : decode cX3_put 167 = .ok (.aload 6, 2) := dk_25 6 (dk_at dksX3_put_7 3 rfl rfl)
theorem dX3_put_169 : decode cX3_put 169 = .ok (.invokevirtual 249, 3) := dk_182 0 249 (dk_at dksX3_put_7 5 rfl rfl)
theorem dX3_put_172 : decode cX3_put 172 = .ok (.invokevirtual 312, 3) := dk_182 1 56 (dk_at dksX3_put_7 8 rfl rfl)
theorem dX3_put_175 : decode cX3_put 175 = .ok (.invokevirtual 234, 3) := dk_182 0 234 (dk_at dksX3_put_7 11 rfl rfl)
theorem dX3_put_178 : decode cX3_put 178 = .ok (.istore 7, 2) := dk_54 7 (dk_at dksX3_put_7 14 rfl rfl)
theorem dX3_put_180 : decode cX3_put 180 = .ok (.aload_n 0, 1) := dk_42 (dk_at dksX3_put_7 16 rfl rfl)
theorem dX3_put_181 : decode cX3_put 181 = .ok (.aload_n 0, 1) := dk_42 (dk_at dksX3_put_7 17 rfl rfl)
theorem dX3_put_182 : decode cX3_put 182 = .ok (.aload_n 0, 1) := dk_42 (dk_at dksX3_put_7 18 rfl rfl)
theorem dX3_put_183 : decode cX3_put 183 = .ok (.getfield 80, 3) := dk_180 0 80 (dk_at dksX3_put_7 19 rfl rfl)
theorem dX3_put_186 : decode cX3_put 186 = .ok (.getfield 230, 3) := dk_180 0 230 (dk_at dksX3_put_8 0 rfl rfl)
theorem dX3_put_189 : decode cX3_put 189 = .ok (.invokevirtual 123, 3) := dk_182 0 123 (dk_at dksX3_put_8 3 rfl rfl)
theorem dX3_put_192 : decode cX3_put 192 = .ok (.iload 5, 2) := dk_21 5 (dk_at dksX3_put_8 6 rfl rfl)
theorem dX3_put_194 : decode cX3_put 194 = .ok (.iconst 1, 1) := dk_4 (dk_at dksX3_put_8 8 rfl rfl)
theorem dX3_put_195 : decode cX3_put 195 = .ok (.iadd, 1) := dk_96 (dk_at dksX3_put_8 9 rfl rfl)
theorem dX3_put_196 : decode cX3_put 196 = .ok (.iload 7, 2) := dk_21 7 (dk_at dksX3_put_8 10 rfl rfl)
theorem dX3_put_198 : decode cX3_put 198 = .ok (.invokevirtual 302, 3) := dk_182 1 46 (dk_at dksX3_put_8 12 rfl rfl)
theorem dX3_put_201 : decode cX3_put 201 = .ok (.invokevirtual 245, 3) := dk_182 0 245 (dk_at dksX3_put_8 15 rfl rfl)
theorem dX3_put_204 : decode cX3_put 204 = .ok (.iload_n 3, 1) := dk_29 (dk_at dksX3_put_8 18 rfl rfl)
theorem dX3_put_205 : decode cX3_put 205 = .ok (.ireturn, 1) := dk_172 (dk_at dksX3_put_8 19 rfl rfl)
/-! PageGarden$Garden.put(II)I -/
abbrev M_X3_put (z0 n0 : Nat) (s' : gS) : gM := (RX3, cX3_put, 8, (some FieldType.int), "put", [], 13, z0, n0, s'.2.1, s'.2.2)
abbrev W_X3_put (E : gE) (z0 n0 : Nat) (r : (Int32 ⊕ String)) (s' : gS) (pc : Nat) (L : List (Nat × gV)) (st : List gV) (s : gS) : Prop := gW E (M_X3_put z0 n0 s') (gQm E (M_X3_put z0 n0 s') (gOi r) s') pc L st s
noncomputable def f_X3_put_204 (κ : gK) (F : Nat)  (l3 : Int32) (s : gS) : Option ((Int32 ⊕ String) × gS) :=
  some ((.inl l3), s)
set_option maxHeartbeats 4000000 in
theorem w_X3_put_204 {E : gE} {F z0 n0 : Nat} {r : (Int32 ⊕ String)} {s' : gS}   : ∀ (l3 : Int32)  (s : gS), f_X3_put_204 (gk E) F  l3 s = some (r, s') → W_X3_put E z0 n0 r s' 204 [(3, vI l3)] [] s := by
  intro l3 s hB
  unfold f_X3_put_204 at hB
  refine gw_iload_n 0 rfl dX3_put_204 ?_
  obtain ⟨rfl, rfl⟩ := Prod.mk.inj (Option.some.inj hB)
  exact gw_iret rfl rfl rfl dX3_put_205
noncomputable def f_X3_put_38 (κ : gK) (F : Nat)  (l0 : Option Nat) (l1 : Int32) (l2 : Int32) (t0 : Int32) (s : gS) : Option ((Int32 ⊕ String) × gS) :=
  gB3 (f_X1_requireState κ F t0 (κ.2 31) s) fun v2 s1 =>
  gB1 (gck s1 l0 7) fun _ =>
  gB3 (f_X3_drafted κ F l0 l1 s1) fun v4 s3 =>
  gB1 (gck s3 l0 7) fun _ =>
  gB3 (f_X3_ownDirectory κ F l0  s3) fun v7 s6 =>
  gB1 (gfR s6 v7 3 0) fun v9 =>
  gB1 (gal s6 v9) fun v10 =>
  if v10 = 0 then
    gB2 (gnw s6 2 g0_X9 2) fun v54 s55 =>
    gB2 (gna s55 0 (1 : Int32)) fun v56 s57 =>
    gB1 (gsI κ s57 v56 (0 : Int32) l1) fun s58 =>
    gB2 (gna s58 0 (1 : Int32)) fun v59 s60 =>
    gB1 (gsI κ s60 v59 (0 : Int32) l2) fun s61 =>
    gB1 (gsm v54) fun _ =>
    gB2 (f_X9_init κ F v54 v56 v59 s61) fun v63 s62 =>
    gB1 (gck s62 l0 7) fun _ =>
    gB3 (f_X3_dig κ F l0 v54 s62) fun v66 s65 =>
    gB1 (gck s65 v7 3) fun _ =>
    gB2 (f_X5_with κ F v7 (0 : Int32) v66 s65) fun v69 s68 =>
    gB1 (gck s68 l0 7) fun _ =>
    gB2 (f_X3_setDirectory κ F l0 v69 s68) fun v72 s71 =>
    some ((.inl v4), s71)
  else
    gB1 (gck s6 l0 7) fun _ =>
    gB2 (f_X3_placeOf κ F l0 v7 l1 s6) fun v12 s11 =>
    gB1 (gfR s11 v7 3 0) fun v14 =>
    gB1 (gaI s11 v14 0 v12) fun v15 =>
    gB1 (gck s11 l0 7) fun _ =>
    gB2 (f_X3_leaf κ F l0 v15 s11) fun v17 s16 =>
    gB1 (gck s16 v17 2) fun _ =>
    gB2 (f_X9_with κ F v17 l1 l2 s16) fun v20 s19 =>
    gB1 (gck s19 v20 2) fun _ =>
    gB2 (f_X9_size κ F v20  s19) fun v23 s22 =>
    if (4 : Int32) < v23 then
      gB1 (gck s22 v20 2) fun _ =>
      gB2 (f_X9_part κ F v20 (0 : Int32) (3 : Int32) s22) fun v26 s25 =>
      gB1 (gck s25 l0 7) fun _ =>
      gB3 (f_X3_change κ F l0 v12 v26 s25) fun v29 s28 =>
      gB1 (gck s28 v20 2) fun _ =>
      gB2 (f_X9_size κ F v20  s28) fun v32 s31 =>
      gB1 (gck s31 v20 2) fun _ =>
      gB2 (f_X9_part κ F v20 (3 : Int32) v32 s31) fun v35 s34 =>
      gB1 (gck s34 l0 7) fun _ =>
      gB3 (f_X3_dig κ F l0 v35 s34) fun v38 s37 =>
      gB1 (gfR s37 l0 7 6) fun v40 =>
      gB1 (gfI s37 v40 6 2) fun v41 =>
      gB1 (gck s37 l0 7) fun _ =>
      gB2 (f_X3_directory κ F l0 v41 s37) fun v43 s42 =>
      gB1 (gck s42 v43 3) fun _ =>
      gB2 (f_X5_with κ F v43 (v12 + (1 : Int32)) v38 s42) fun v46 s45 =>
      gB1 (gck s45 l0 7) fun _ =>
      gB2 (f_X3_setDirectory κ F l0 v46 s45) fun v49 s48 =>
      f_X3_put_204 κ F  v4 s48
    else
      gB1 (gck s22 l0 7) fun _ =>
      gB3 (f_X3_change κ F l0 v12 v20 s22) fun v52 s51 =>
      f_X3_put_204 κ F  v4 s51
set_option maxHeartbeats 4000000 in
theorem w_X3_put_38 {E : gE} {F z0 n0 : Nat} {r : (Int32 ⊕ String)} {s' : gS}   : ∀ (l0 : Option Nat) (l1 : Int32) (l2 : Int32) (t0 : Int32) (s : gS), f_X3_put_38 (gk E) F  l0 l1 l2 t0 s = some (r, s') → W_X3_put E z0 n0 r s' 38 [(0, vR l0), (1, vI l1), (2, vI l2)] [vI t0] s := by
  intro l0 l1 l2 t0 s hB
  unfold f_X3_put_38 at hB
  refine gw_ldcSW (own := "PageGarden$Garden") (tx := "it cannot be done") (i := 31) rfl (by decide) dX3_put_38 ?_
  rcases gB3_some hB with ⟨v2, s1, hv2, hB⟩ | ⟨Cv2, hv2, hzv2⟩
  rotate_left
  · subst hzv2
    exact gw_callSN (y := yX1_requireState) (lw_meth q2017) q108 q2015 q2016 hdS_X1_requireState (As := [vI t0, vR ((gk E).2 31)]) (rest := []) (m_X1_requireState _ _ _ _ _ hv2) (Nat.le_of_ble_eq_true rfl) (Nat.le_of_ble_eq_true rfl) rfl (Nat.le_of_ble_eq_true rfl) dX3_put_41 (gCont_x (gx_out rfl rfl rfl))
  refine gw_callSN (y := yX1_requireState) (lw_meth q2017) q108 q2015 q2016 hdS_X1_requireState (As := [vI t0, vR ((gk E).2 31)]) (rest := []) (m_X1_requireState _ _ _ _ _ hv2) (Nat.le_of_ble_eq_true rfl) (Nat.le_of_ble_eq_true rfl) rfl (Nat.le_of_ble_eq_true rfl) dX3_put_41 (gCont_v ?_)
  refine gw_aload_n 0 rfl dX3_put_44 ?_
  refine gw_iload_n 1 rfl dX3_put_45 ?_
  obtain ⟨u0, hu5, hB⟩ := gB1_some hB
  rcases gB3_some hB with ⟨v4, s3, hv4, hB⟩ | ⟨Cv4, hv4, hzv4⟩
  rotate_left
  · subst hzv4
    exact gw_callV (y := yX3_drafted) (lw_V q2101 q2102 q2103 q110 q2104) hdV_X3_drafted gcl7 hu5 (As := [vI l1]) (rest := []) (m_X3_drafted _ _ _ _ _ hv4) (Nat.le_of_ble_eq_true rfl) (Nat.le_of_ble_eq_true rfl) rfl (Nat.le_of_ble_eq_true rfl) dX3_put_46 (gCont_x (gx_out rfl rfl rfl))
  refine gw_callV (y := yX3_drafted) (lw_V q2101 q2102 q2103 q110 q2104) hdV_X3_drafted gcl7 hu5 (As := [vI l1]) (rest := []) (m_X3_drafted _ _ _ _ _ hv4) (Nat.le_of_ble_eq_true rfl) (Nat.le_of_ble_eq_true rfl) rfl (Nat.le_of_ble_eq_true rfl) dX3_put_46 (gCont_i ?_)
  refine gw_istore_n (L' := [(3, vI v4), (0, vR l0), (1, vI l1), (2, vI l2)]) (Nat.le_of_ble_eq_true rfl) rfl dX3_put_49 ?_
  refine gw_aload_n 1 rfl dX3_put_50 ?_
  obtain ⟨u0, hu8, hB⟩ := gB1_some hB
  rcases gB3_some hB with ⟨v7, s6, hv7, hB⟩ | ⟨Cv7, hv7, hzv7⟩
  rotate_left
  · subst hzv7
    exact gw_callV (y := yX3_ownDirectory) (lw_V q2110 q2112 qs27 q110 q2113) hdV_X3_ownDirectory gcl7 hu8 (As := []) (rest := []) (m_X3_ownDirectory _ _ _ _ hv7) (Nat.le_of_ble_eq_true rfl) (Nat.le_of_ble_eq_true rfl) rfl (Nat.le_of_ble_eq_true rfl) dX3_put_51 (gCont_x (gx_out rfl rfl rfl))
  refine gw_callV (y := yX3_ownDirectory) (lw_V q2110 q2112 qs27 q110 q2113) hdV_X3_ownDirectory gcl7 hu8 (As := []) (rest := []) (m_X3_ownDirectory _ _ _ _ hv7) (Nat.le_of_ble_eq_true rfl) (Nat.le_of_ble_eq_true rfl) rfl (Nat.le_of_ble_eq_true rfl) dX3_put_51 (gCont_i ?_)
  refine gw_astore (L' := [(4, vR v7), (3, vI v4), (0, vR l0), (1, vI l1), (2, vI l2)]) (Nat.le_of_ble_eq_true rfl) rfl dX3_put_54 ?_
  refine gw_aload 0 rfl dX3_put_56 ?_
  obtain ⟨v9, hv9, hB⟩ := gB1_some hB
  refine gw_getfN (C := RX5) (T := TX5) (N := 1) (k := 0) gcl3 (by decide) in_X5 q321 (gfR_spec hv9) dX3_put_58 ?_
  obtain ⟨v10, hv10, hB⟩ := gB1_some hB
  refine gw_alen hv10 dX3_put_61 ?_
  refine gw_if_ne (tgt := 102) dX3_put_62 (by decide) (fun hcnd => ?_) (fun hcnd => ?_)
  · rw [if_neg hcnd] at hB
    refine gw_aload_n 2 rfl dX3_put_102 ?_
    refine gw_aload 0 rfl dX3_put_103 ?_
    refine gw_iload_n 3 rfl dX3_put_105 ?_
    obtain ⟨u0, hu13, hB⟩ := gB1_some hB
    obtain ⟨v12, s11, hv12, hB⟩ := gB2_some hB
    refine gw_callV (y := yX3_placeOf) (lw_V q2053 q2055 qs25 q110 q2056) hdV_X3_placeOf gcl7 hu13 (As := [vR v7, vI l1]) (rest := []) (m_X3_placeOf _ _ _ _ _ _ hv12) (Nat.le_of_ble_eq_true rfl) (Nat.le_of_ble_eq_true rfl) rfl (Nat.le_of_ble_eq_true rfl) dX3_put_106 (gCont_i ?_)
    refine gw_istore (L' := [(5, vI v12), (4, vR v7), (3, vI v4), (0, vR l0), (1, vI l1), (2, vI l2)]) (Nat.le_of_ble_eq_true rfl) rfl dX3_put_109 ?_
    refine gw_aload_n 3 rfl dX3_put_111 ?_
    refine gw_aload 1 rfl dX3_put_112 ?_
    obtain ⟨v14, hv14, hB⟩ := gB1_some hB
    refine gw_getfN (C := RX5) (T := TX5) (N := 1) (k := 0) gcl3 (by decide) in_X5 q321 (gfR_spec hv14) dX3_put_114 ?_
    refine gw_iload 0 rfl dX3_put_117 ?_
    obtain ⟨v15, hv15, hB⟩ := gB1_some hB
    refine gw_iaload hv15 dX3_put_119 ?_
    obtain ⟨u0, hu18, hB⟩ := gB1_some hB
    obtain ⟨v17, s16, hv17, hB⟩ := gB2_some hB
    refine gw_callV (y := yX3_leaf) (lw_V q2057 q2059 qs26 q110 q2060) hdV_X3_leaf gcl7 hu18 (As := [vI v15]) (rest := []) (m_X3_leaf _ _ _ _ _ hv17) (Nat.le_of_ble_eq_true rfl) (Nat.le_of_ble_eq_true rfl) rfl (Nat.le_of_ble_eq_true rfl) dX3_put_120 (gCont_i ?_)
    refine gw_iload_n 4 rfl dX3_put_123 ?_
    refine gw_iload_n 5 rfl dX3_put_124 ?_
    obtain ⟨u0, hu21, hB⟩ := gB1_some hB
    obtain ⟨v20, s19, hv20, hB⟩ := gB2_some hB
    refine gw_callV (y := yX9_with) (lw_V q2192 q2193 q2194 q160 q2195) hdV_X9_with gcl2 hu21 (As := [vI l1, vI l2]) (rest := []) (m_X9_with _ _ _ _ _ _ hv20) (Nat.le_of_ble_eq_true rfl) (Nat.le_of_ble_eq_true rfl) rfl (Nat.le_of_ble_eq_true rfl) dX3_put_125 (gCont_i ?_)
    refine gw_astore (L' := [(6, vR v20), (5, vI v12), (4, vR v7), (3, vI v4), (0, vR l0), (1, vI l1), (2, vI l2)]) (Nat.le_of_ble_eq_true rfl) rfl dX3_put_128 ?_
    refine gw_aload 0 rfl dX3_put_130 ?_
    obtain ⟨u0, hu24, hB⟩ := gB1_some hB
    obtain ⟨v23, s22, hv23, hB⟩ := gB2_some hB
    refine gw_callV (y := yX9_size) (lw_V q2071 q2072 q2073 q160 q2074) hdV_X9_size gcl2 hu24 (As := []) (rest := []) (m_X9_size _ _ _ _ hv23) (Nat.le_of_ble_eq_true rfl) (Nat.le_of_ble_eq_true rfl) rfl (Nat.le_of_ble_eq_true rfl) dX3_put_132 (gCont_i ?_)
    refine gw_iconst (v := (4 : Int32)) (by decide) dX3_put_135 ?_
    refine gw_icmp_gt (tgt := 150) dX3_put_136 (by decide) (fun hcnd => ?_) (fun hcnd => ?_)
    · rw [if_pos hcnd] at hB
      refine gw_aload_n 4 rfl dX3_put_150 ?_
      refine gw_iload 1 rfl dX3_put_151 ?_
      refine gw_aload 0 rfl dX3_put_153 ?_
      refine gw_iconst (v := (0 : Int32)) (by decide) dX3_put_155 ?_
      refine gw_iconst (v := (3 : Int32)) (by decide) dX3_put_156 ?_
      obtain ⟨u0, hu27, hB⟩ := gB1_some hB
      obtain ⟨v26, s25, hv26, hB⟩ := gB2_some hB
      refine gw_callV (y := yX9_part) (lw_V q2212 q2213 q2214 q160 q2215) hdV_X9_part gcl2 hu27 (As := [vI (0 : Int32), vI (3 : Int32)]) (rest := [vI v12, vR l0]) (m_X9_part _ _ _ _ _ _ hv26) (Nat.le_of_ble_eq_true rfl) (Nat.le_of_ble_eq_true rfl) rfl (Nat.le_of_ble_eq_true rfl) dX3_put_157 (gCont_i ?_)
      obtain ⟨u0, hu30, hB⟩ := gB1_some hB
      rcases gB3_some hB with ⟨v29, s28, hv29, hB⟩ | ⟨Cv29, hv29, hzv29⟩
      rotate_left
      · subst hzv29
        exact gw_callV (y := yX3_change) (lw_V q2202 q2204 qs32 q110 q2205) hdV_X3_change gcl7 hu30 (As := [vI v12, vR v26]) (rest := []) (m_X3_change _ _ _ _ _ _ hv29) (Nat.le_of_ble_eq_true rfl) (Nat.le_of_ble_eq_true rfl) rfl (Nat.le_of_ble_eq_true rfl) dX3_put_160 (gCont_x (gx_out rfl rfl rfl))
      refine gw_callV (y := yX3_change) (lw_V q2202 q2204 qs32 q110 q2205) hdV_X3_change gcl7 hu30 (As := [vI v12, vR v26]) (rest := []) (m_X3_change _ _ _ _ _ _ hv29) (Nat.le_of_ble_eq_true rfl) (Nat.le_of_ble_eq_true rfl) rfl (Nat.le_of_ble_eq_true rfl) dX3_put_160 (gCont_v ?_)
      refine gw_aload_n 4 rfl dX3_put_163 ?_
      refine gw_aload 0 rfl dX3_put_164 ?_
      refine gw_iconst (v := (3 : Int32)) (by decide) dX3_put_166 ?_
      refine gw_aload 0 rfl dX3_put_167 ?_
      obtain ⟨u0, hu33, hB⟩ := gB1_some hB
      obtain ⟨v32, s31, hv32, hB⟩ := gB2_some hB
      refine gw_callV (y := yX9_size) (lw_V q2071 q2072 q2073 q160 q2074) hdV_X9_size gcl2 hu33 (As := []) (rest := [vI (3 : Int32), vR v20, vR l0]) (m_X9_size _ _ _ _ hv32) (Nat.le_of_ble_eq_true rfl) (Nat.le_of_ble_eq_true rfl) rfl (Nat.le_of_ble_eq_true rfl) dX3_put_169 (gCont_i ?_)
      obtain ⟨u0, hu36, hB⟩ := gB1_some hB
      obtain ⟨v35, s34, hv35, hB⟩ := gB2_some hB
      refine gw_callV (y := yX9_part) (lw_V q2212 q2213 q2214 q160 q2215) hdV_X9_part gcl2 hu36 (As := [vI (3 : Int32), vI v32]) (rest := [vR l0]) (m_X9_part _ _ _ _ _ _ hv35) (Nat.le_of_ble_eq_true rfl) (Nat.le_of_ble_eq_true rfl) rfl (Nat.le_of_ble_eq_true rfl) dX3_put_172 (gCont_i ?_)
      obtain ⟨u0, hu39, hB⟩ := gB1_some hB
      rcases gB3_some hB with ⟨v38, s37, hv38, hB⟩ | ⟨Cv38, hv38, hzv38⟩
      rotate_left
      · subst hzv38
        exact gw_callV (y := yX3_dig) (lw_V q2114 q2116 qs28 q110 q2117) hdV_X3_dig gcl7 hu39 (As := [vR v35]) (rest := []) (m_X3_dig _ _ _ _ _ hv38) (Nat.le_of_ble_eq_true rfl) (Nat.le_of_ble_eq_true rfl) rfl (Nat.le_of_ble_eq_true rfl) dX3_put_175 (gCont_x (gx_out rfl rfl rfl))
      refine gw_callV (y := yX3_dig) (lw_V q2114 q2116 qs28 q110 q2117) hdV_X3_dig gcl7 hu39 (As := [vR v35]) (rest := []) (m_X3_dig _ _ _ _ _ hv38) (Nat.le_of_ble_eq_true rfl) (Nat.le_of_ble_eq_true rfl) rfl (Nat.le_of_ble_eq_true rfl) dX3_put_175 (gCont_i ?_)
      refine gw_istore (L' := [(7, vI v38), (6, vR v20), (5, vI v12), (4, vR v7), (3, vI v4), (0, vR l0), (1, vI l1), (2, vI l2)]) (Nat.le_of_ble_eq_true rfl) rfl dX3_put_178 ?_
      refine gw_aload_n 5 rfl dX3_put_180 ?_
      refine gw_aload_n 5 rfl dX3_put_181 ?_
      refine gw_aload_n 5 rfl dX3_put_182 ?_
      obtain ⟨v40, hv40, hB⟩ := gB1_some hB
      refine gw_getf (C := RX3) (T := TX3) (N := 9) (k := 6) gcl7 (by decide) in_X3 q289 (gfR_spec hv40) dX3_put_183 ?_
      obtain ⟨v41, hv41, hB⟩ := gB1_some hB
      refine gw_getfN (C := RX7) (T := TX7) (N := 3) (k := 2) gcl6 (by decide) in_X7 q1791 (gfI_spec hv41) dX3_put_186 ?_
      obtain ⟨u0, hu44, hB⟩ := gB1_some hB
      obtain ⟨v43, s42, hv43, hB⟩ := gB2_some hB
      refine gw_callV (y := yX3_directory) (lw_V q2041 q2043 qs23 q110 q2044) hdV_X3_directory gcl7 hu44 (As := [vI v41]) (rest := [vR l0]) (m_X3_directory _ _ _ _ _ hv43) (Nat.le_of_ble_eq_true rfl) (Nat.le_of_ble_eq_true rfl) rfl (Nat.le_of_ble_eq_true rfl) dX3_put_189 (gCont_i ?_)
      refine gw_iload 2 rfl dX3_put_192 ?_
      refine gw_iconst (v := (1 : Int32)) (by decide) dX3_put_194 ?_
      refine gw_iadd dX3_put_195 ?_
      refine gw_iload 0 rfl dX3_put_196 ?_
      obtain ⟨u0, hu47, hB⟩ := gB1_some hB
      obtain ⟨v46, s45, hv46, hB⟩ := gB2_some hB
      refine gw_callV (y := yX5_with) (lw_V q2179 q2180 q2181 q117 q2182) hdV_X5_with gcl3 hu47 (As := [vI (v12 + (1 : Int32)), vI v38]) (rest := [vR l0]) (m_X5_with _ _ _ _ _ _ hv46) (Nat.le_of_ble_eq_true rfl) (Nat.le_of_ble_eq_true rfl) rfl (Nat.le_of_ble_eq_true rfl) dX3_put_198 (gCont_i ?_)
      obtain ⟨u0, hu50, hB⟩ := gB1_some hB
      obtain ⟨v49, s48, hv49, hB⟩ := gB2_some hB
      refine gw_callV (y := yX3_setDirectory) (lw_V q2188 q2190 qs31 q110 q2191) hdV_X3_setDirectory gcl7 hu50 (As := [vR v46]) (rest := []) (m_X3_setDirectory _ _ _ _ _ hv49) (Nat.le_of_ble_eq_true rfl) (Nat.le_of_ble_eq_true rfl) rfl (Nat.le_of_ble_eq_true rfl) dX3_put_201 (gCont_v ?_)
      exact gw_sub [4] rfl (w_X3_put_204  _ _ hB)
    · rw [if_neg hcnd] at hB
      refine gw_aload_n 4 rfl dX3_put_139 ?_
      refine gw_iload 1 rfl dX3_put_140 ?_
      refine gw_aload 0 rfl dX3_put_142 ?_
      obtain ⟨u0, hu53, hB⟩ := gB1_some hB
      rcases gB3_some hB with ⟨v52, s51, hv52, hB⟩ | ⟨Cv52, hv52, hzv52⟩
      rotate_left
      · subst hzv52
        exact gw_callV (y := yX3_change) (lw_V q2202 q2204 qs32 q110 q2205) hdV_X3_change gcl7 hu53 (As := [vI v12, vR v20]) (rest := []) (m_X3_change _ _ _ _ _ _ hv52) (Nat.le_of_ble_eq_true rfl) (Nat.le_of_ble_eq_true rfl) rfl (Nat.le_of_ble_eq_true rfl) dX3_put_144 (gCont_x (gx_out rfl rfl rfl))
      refine gw_callV (y := yX3_change) (lw_V q2202 q2204 qs32 q110 q2205) hdV_X3_change gcl7 hu53 (As := [vI v12, vR v20]) (rest := []) (m_X3_change _ _ _ _ _ _ hv52) (Nat.le_of_ble_eq_true rfl) (Nat.le_of_ble_eq_true rfl) rfl (Nat.le_of_ble_eq_true rfl) dX3_put_144 (gCont_v ?_)
      refine gw_goto (tgt := 204) dX3_put_147 (by decide) ?_
      exact gw_sub [3] rfl (w_X3_put_204  _ _ hB)
  · rw [if_pos hcnd] at hB
    refine gw_aload_n 2 rfl dX3_put_65 ?_
    refine gw_aload 0 rfl dX3_put_66 ?_
    refine gw_iconst (v := (0 : Int32)) (by decide) dX3_put_68 ?_
    refine gw_aload_n 2 rfl dX3_put_69 ?_
    obtain ⟨v54, s55, hv54, hB⟩ := gB2_some hB
    refine gw_new (C := RX9) (T := TX9) (N := 2) tyX9 tyX9_ok gcl2 in_X9 q2061 q2165 q160 g0_X9_ok hv54 dX3_put_70 ?_
    refine gw_dup rfl dX3_put_73 ?_
    refine gw_iconst (v := (1 : Int32)) (by decide) dX3_put_74 ?_
    obtain ⟨v56, s57, hv56, hB⟩ := gB2_some hB
    refine gw_newarr (atype := .int) (t := 0) rfl rfl rfl (by decide) rfl q211 hv56 dX3_put_75 ?_
    refine gw_dup rfl dX3_put_77 ?_
    refine gw_iconst (v := (0 : Int32)) (by decide) dX3_put_78 ?_
    refine gw_iload_n 3 rfl dX3_put_79 ?_
    obtain ⟨s58, hs58, hB⟩ := gB1_some hB
    refine gw_iastore hs58 dX3_put_80 ?_
    refine gw_iconst (v := (1 : Int32)) (by decide) dX3_put_81 ?_
    obtain ⟨v59, s60, hv59, hB⟩ := gB2_some hB
    refine gw_newarr (atype := .int) (t := 0) rfl rfl rfl (by decide) rfl q211 hv59 dX3_put_82 ?_
    refine gw_dup rfl dX3_put_84 ?_
    refine gw_iconst (v := (0 : Int32)) (by decide) dX3_put_85 ?_
    refine gw_iload_n 4 rfl dX3_put_86 ?_
    obtain ⟨s61, hs61, hB⟩ := gB1_some hB
    refine gw_iastore hs61 dX3_put_87 ?_
    obtain ⟨u0, hu64, hB⟩ := gB1_some hB
    obtain ⟨v63, s62, hv63, hB⟩ := gB2_some hB
    refine gw_callI (y := yX9_init) (lw_meth q2168) q160 q2166 q2167 rfl hdS_X9_init (gsm_spec hu64) (As := [vR v56, vR v59]) (rest := [vR v54, vR l0, vI (0 : Int32), vR v7, vR l0]) (m_X9_init _ _ _ _ _ _ hv63) (Nat.le_of_ble_eq_true rfl) (Nat.le_of_ble_eq_true rfl) rfl (Nat.le_of_ble_eq_true rfl) dX3_put_88 (gCont_v ?_)
    obtain ⟨u0, hu67, hB⟩ := gB1_some hB
    rcases gB3_some hB with ⟨v66, s65, hv66, hB⟩ | ⟨Cv66, hv66, hzv66⟩
    rotate_left
    · subst hzv66
      exact gw_callV (y := yX3_dig) (lw_V q2114 q2116 qs28 q110 q2117) hdV_X3_dig gcl7 hu67 (As := [vR v54]) (rest := [vI (0 : Int32), vR v7, vR l0]) (m_X3_dig _ _ _ _ _ hv66) (Nat.le_of_ble_eq_true rfl) (Nat.le_of_ble_eq_true rfl) rfl (Nat.le_of_ble_eq_true rfl) dX3_put_91 (gCont_x (gx_out rfl rfl rfl))
    refine gw_callV (y := yX3_dig) (lw_V q2114 q2116 qs28 q110 q2117) hdV_X3_dig gcl7 hu67 (As := [vR v54]) (rest := [vI (0 : Int32), vR v7, vR l0]) (m_X3_dig _ _ _ _ _ hv66) (Nat.le_of_ble_eq_true rfl) (Nat.le_of_ble_eq_true rfl) rfl (Nat.le_of_ble_eq_true rfl) dX3_put_91 (gCont_i ?_)
    obtain ⟨u0, hu70, hB⟩ := gB1_some hB
    obtain ⟨v69, s68, hv69, hB⟩ := gB2_some hB
    refine gw_callV (y := yX5_with) (lw_V q2179 q2180 q2181 q117 q2182) hdV_X5_with gcl3 hu70 (As := [vI (0 : Int32), vI v66]) (rest := [vR l0]) (m_X5_with _ _ _ _ _ _ hv69) (Nat.le_of_ble_eq_true rfl) (Nat.le_of_ble_eq_true rfl) rfl (Nat.le_of_ble_eq_true rfl) dX3_put_94 (gCont_i ?_)
    obtain ⟨u0, hu73, hB⟩ := gB1_some hB
    obtain ⟨v72, s71, hv72, hB⟩ := gB2_some hB
    refine gw_callV (y := yX3_setDirectory) (lw_V q2188 q2190 qs31 q110 q2191) hdV_X3_setDirectory gcl7 hu73 (As := [vR v69]) (rest := []) (m_X3_setDirectory _ _ _ _ _ hv72) (Nat.le_of_ble_eq_true rfl) (Nat.le_of_ble_eq_true rfl) rfl (Nat.le_of_ble_eq_true rfl) dX3_put_97 (gCont_v ?_)
    refine gw_iload_n 1 rfl dX3_put_100 ?_
    obtain ⟨rfl, rfl⟩ := Prod.mk.inj (Option.some.inj hB)
    exact gw_iret rfl rfl rfl dX3_put_101
noncomputable def f_X3_put_0 (κ : gK) (F : Nat)  (l0 : Option Nat) (l1 : Int32) (l2 : Int32) (s : gS) : Option ((Int32 ⊕ String) × gS) :=
  gB3 (f_X3_requireKey κ F l1 s) fun v2 s1 =>
  gB2 (f_X1_inRange κ F (l2.toInt64) (-999 : Int64) (999 : Int64) s1) fun v4 s3 =>
  gB3 (f_X1_requireArgument κ F v4 (κ.2 30) s3) fun v6 s5 =>
  gB1 (gck s5 l0 7) fun _ =>
  gB3 (f_X3_requireDraft κ F l0  s5) fun v8 s7 =>
  gB1 (gck s7 l0 7) fun _ =>
  gB3 (f_X3_reason κ F l0 l1 s7) fun v11 s10 =>
  if v11 = 0 then
    f_X3_put_38 κ F  l0 l1 l2 (1 : Int32) s10
  else
    f_X3_put_38 κ F  l0 l1 l2 (0 : Int32) s10
set_option maxHeartbeats 4000000 in
theorem w_X3_put_0 {E : gE} {F z0 n0 : Nat} {r : (Int32 ⊕ String)} {s' : gS}   : ∀ (l0 : Option Nat) (l1 : Int32) (l2 : Int32)  (s : gS), f_X3_put_0 (gk E) F  l0 l1 l2 s = some (r, s') → W_X3_put E z0 n0 r s' 0 [(0, vR l0), (1, vI l1), (2, vI l2)] [] s := by
  intro l0 l1 l2 s hB
  unfold f_X3_put_0 at hB
  refine gw_iload_n 1 rfl dX3_put_0 ?_
  rcases gB3_some hB with ⟨v2, s1, hv2, hB⟩ | ⟨Cv2, hv2, hzv2⟩
  rotate_left
  · subst hzv2
    exact gw_callS (y := yX3_requireKey) (lw_S q1992 q1993 q110 q1994) hdS_X3_requireKey (As := [vI l1]) (rest := []) (m_X3_requireKey _ _ _ _ hv2) (Nat.le_of_ble_eq_true rfl) (Nat.le_of_ble_eq_true rfl) rfl (Nat.le_of_ble_eq_true rfl) dX3_put_1 (gCont_x (gx_out rfl rfl rfl))
  refine gw_callS (y := yX3_requireKey) (lw_S q1992 q1993 q110 q1994) hdS_X3_requireKey (As := [vI l1]) (rest := []) (m_X3_requireKey _ _ _ _ hv2) (Nat.le_of_ble_eq_true rfl) (Nat.le_of_ble_eq_true rfl) rfl (Nat.le_of_ble_eq_true rfl) dX3_put_1 (gCont_v ?_)
  refine gw_iload_n 2 rfl dX3_put_4 ?_
  refine gw_i2l dX3_put_5 ?_
  refine gw_ldc2 (-999 : Int64) q2006 dX3_put_6 ?_
  refine gw_ldc2 (999 : Int64) q2007 dX3_put_9 ?_
  obtain ⟨v4, s3, hv4, hB⟩ := gB2_some hB
  refine gw_callSN (y := yX1_inRange) (lw_meth q1363) q108 q2008 q1362 hdS_X1_inRange (As := [vJ (l2.toInt64), vJ (-999 : Int64), vJ (999 : Int64)]) (rest := []) (m_X1_inRange _ _ _ _ _ _ hv4) (Nat.le_of_ble_eq_true rfl) (Nat.le_of_ble_eq_true rfl) rfl (Nat.le_of_ble_eq_true rfl) dX3_put_12 (gCont_i ?_)
  refine gw_ldcSW (own := "PageGarden$Garden") (tx := "value") (i := 30) rfl (by decide) dX3_put_15 ?_
  rcases gB3_some hB with ⟨v6, s5, hv6, hB⟩ | ⟨Cv6, hv6, hzv6⟩
  rotate_left
  · subst hzv6
    exact gw_callSN (y := yX1_requireArgument) (lw_meth q2003) q108 q2001 q2002 hdS_X1_requireArgument (As := [vI v4, vR ((gk E).2 30)]) (rest := []) (m_X1_requireArgument _ _ _ _ _ hv6) (Nat.le_of_ble_eq_true rfl) (Nat.le_of_ble_eq_true rfl) rfl (Nat.le_of_ble_eq_true rfl) dX3_put_18 (gCont_x (gx_out rfl rfl rfl))
  refine gw_callSN (y := yX1_requireArgument) (lw_meth q2003) q108 q2001 q2002 hdS_X1_requireArgument (As := [vI v4, vR ((gk E).2 30)]) (rest := []) (m_X1_requireArgument _ _ _ _ _ hv6) (Nat.le_of_ble_eq_true rfl) (Nat.le_of_ble_eq_true rfl) rfl (Nat.le_of_ble_eq_true rfl) dX3_put_18 (gCont_v ?_)
  refine gw_aload_n 0 rfl dX3_put_21 ?_
  obtain ⟨u0, hu9, hB⟩ := gB1_some hB
  rcases gB3_some hB with ⟨v8, s7, hv8, hB⟩ | ⟨Cv8, hv8, hzv8⟩
  rotate_left
  · subst hzv8
    exact gw_callV (y := yX3_requireDraft) (lw_V q2010 q2012 qs22 q110 q2013) hdV_X3_requireDraft gcl7 hu9 (As := []) (rest := []) (m_X3_requireDraft _ _ _ _ hv8) (Nat.le_of_ble_eq_true rfl) (Nat.le_of_ble_eq_true rfl) rfl (Nat.le_of_ble_eq_true rfl) dX3_put_22 (gCont_x (gx_out rfl rfl rfl))
  refine gw_callV (y := yX3_requireDraft) (lw_V q2010 q2012 qs22 q110 q2013) hdV_X3_requireDraft gcl7 hu9 (As := []) (rest := []) (m_X3_requireDraft _ _ _ _ hv8) (Nat.le_of_ble_eq_true rfl) (Nat.le_of_ble_eq_true rfl) rfl (Nat.le_of_ble_eq_true rfl) dX3_put_22 (gCont_v ?_)
  refine gw_aload_n 0 rfl dX3_put_25 ?_
  refine gw_iload_n 1 rfl dX3_put_26 ?_
  obtain ⟨u0, hu12, hB⟩ := gB1_some hB
  rcases gB3_some hB with ⟨v11, s10, hv11, hB⟩ | ⟨Cv11, hv11, hzv11⟩
  rotate_left
  · subst hzv11
    exact gw_callV (y := yX3_reason) (lw_V q2033 q2034 q2035 q110 q2036) hdV_X3_reason gcl7 hu12 (As := [vI l1]) (rest := []) (m_X3_reason _ _ _ _ _ hv11) (Nat.le_of_ble_eq_true rfl) (Nat.le_of_ble_eq_true rfl) rfl (Nat.le_of_ble_eq_true rfl) dX3_put_27 (gCont_x (gx_out rfl rfl rfl))
  refine gw_callV (y := yX3_reason) (lw_V q2033 q2034 q2035 q110 q2036) hdV_X3_reason gcl7 hu12 (As := [vI l1]) (rest := []) (m_X3_reason _ _ _ _ _ hv11) (Nat.le_of_ble_eq_true rfl) (Nat.le_of_ble_eq_true rfl) rfl (Nat.le_of_ble_eq_true rfl) dX3_put_27 (gCont_i ?_)
  refine gw_if_ne (tgt := 37) dX3_put_30 (by decide) (fun hcnd => ?_) (fun hcnd => ?_)
  · rw [if_neg hcnd] at hB
    refine gw_iconst (v := (0 : Int32)) (by decide) dX3_put_37 ?_
    exact gw_sub [0, 1, 2] rfl (w_X3_put_38  _ _ _ _ _ hB)
  · rw [if_pos hcnd] at hB
    refine gw_iconst (v := (1 : Int32)) (by decide) dX3_put_33 ?_
    refine gw_goto (tgt := 38) dX3_put_34 (by decide) ?_
    exact gw_sub [0, 1, 2] rfl (w_X3_put_38  _ _ _ _ _ hB)
noncomputable def f_X3_put (κ : gK) (F : Nat) (a0 : Option Nat) (a1 : Int32) (a2 : Int32) (s : gS) : Option ((Int32 ⊕ String) × gS) := f_X3_put_0 κ F a0 a1 a2 s
theorem m_X3_put {E : gE} {F : Nat} (a0 : Option Nat) (a1 : Int32) (a2 : Int32) (s : gS) (r : (Int32 ⊕ String)) (s' : gS) (h : f_X3_put (gk E) F a0 a1 a2 s = some (r, s')) : gCT E 13 yX3_put (ws_ yX3_put cX3_put 8 (some FieldType.int)) [vR a0, vI a1, vI a2] s (gOi r) s' := by
  refine gCT_of2 (fun h => absurd h (by decide)) (plainFor_of_name (by decide)) (Nat.le_of_ble_eq_true rfl) ?_
  exact gw_sub [0, 1, 2] rfl (w_X3_put_0 _ _ _ _ h)
def dkwX3_readerValue_1 : List UInt8 := [180, 1, 118, 167, 0, 11, 42, 45, 180, 1, 118, 182, 1, 119, 172, 78, 17, 252, 24, 172]
abbrev dktX3_readerValue_1 : List UInt8 := dkwX3_readerValue_1 ++ []
def dkwX3_readerValue_0 : List UInt8 := [42, 180, 0, 26, 27, 50, 78, 28, 154, 0, 10, 45, 180, 0, 164, 167, 0, 23, 28, 4, 160, 0, 10, 45]
abbrev dktX3_readerValue_0 : List UInt8 := dkwX3_readerValue_0 ++ dktX3_readerValue_1
theorem dksX3_readerValue_0 : cX3_readerValue.data.toList.drop 0 = dktX3_readerValue_0 := by decide +kernel
theorem dksX3_readerValue_1 : cX3_readerValue.data.toList.drop 24 = dktX3_readerValue_1 := dk_seg dksX3_readerValue_0 24 rfl rfl
theorem dX3_readerValue_0 : decode cX3_readerValue 0 = .ok (.aload_n 0, 1) := dk_42 (dk_at dksX3_readerValue_0 0 rfl rfl)
theorem dX3_readerValue_1 : decode cX3_readerValue 1 = .ok (.getfield 26, 3) := dk_180 0 26 (dk_at dksX3_readerValue_0 1 rfl rfl)
theorem dX3_readerValue_4 : decode cX3_readerValue 4 = .ok (.iload_n 1, 1) := dk_27 (dk_at dksX3_readerValue_0 4 rfl rfl)
theorem dX3_readerValue_5 : decode cX3_readerValue 5 = .ok (.aaload, 1) := dk_50 (dk_at dksX3_readerValue_0 5 rfl rfl)
theorem dX3_readerValue_6 : decode cX3_readerValue 6 = .ok (.astore_n 3, 1) := dk_78 (dk_at dksX3_readerValue_0 6 rfl rfl)
theorem dX3_readerValue_7 : decode cX3_readerValue 7 = .ok (.iload_n 2, 1) := dk_28 (dk_at dksX3_readerValue_0 7 rfl rfl)
theorem dX3_readerValue_8 : decode cX3_readerValue 8 = .ok (.ifCond .ne 10, 3) := dk_154 0 10 (dk_at dksX3_readerValue_0 8 rfl rfl)
theorem dX3_readerValue_11 : decode cX3_readerValue 11 = .ok (.aload_n 3, 1) := dk_45 (dk_at dksX3_readerValue_0 11 rfl rfl)
theorem dX3_readerValue_12 : decode cX3_readerValue 12 = .ok (.getfield 164, 3) := dk_180 0 164 (dk_at dksX3_readerValue_0 12 rfl rfl)
theorem dX3_readerValue_15 : decode cX3_readerValue 15 = .ok (.goto 23, 3) := dk_167 0 23 (dk_at dksX3_readerValue_0 15 rfl rfl)
theorem dX3_readerValue_18 : decode cX3_readerValue 18 = .ok (.iload_n 2, 1) := dk_28 (dk_at dksX3_readerValue_0 18 rfl rfl)
theorem dX3_readerValue_19 : decode cX3_readerValue 19 = .ok (.iconst 1, 1) := dk_4 (dk_at dksX3_readerValue_0 19 rfl rfl)
theorem dX3_readerValue_20 : decode cX3_readerValue 20 = .ok (.if_icmp .ne 10, 3) := dk_160 0 10 (dk_at dksX3_readerValue_0 20 rfl rfl)
theorem dX3_readerValue_23 : decode cX3_readerValue 23 = .ok (.aload_n 3, 1) := dk_45 (dk_at dksX3_readerValue_0 23 rfl rfl)
theorem dX3_readerValue_24 : decode cX3_readerValue 24 = .ok (.getfield 374, 3) := dk_180 1 118 (dk_at dksX3_readerValue_1 0 rfl rfl)
theorem dX3_readerValue_27 : decode cX3_readerValue 27 = .ok (.goto 11, 3) := dk_167 0 11 (dk_at dksX3_readerValue_1 3 rfl rfl)
theorem dX3_readerValue_30 : decode cX3_readerValue 30 = .ok (.aload_n 0, 1) := dk_42 (dk_at dksX3_readerValue_1 6 rfl rfl)
theorem dX3_readerValue_31 : decode cX3_readerValue 31 = .ok (.aload_n 3, 1) := dk_45 (dk_at dksX3_readerValue_1 7 rfl rfl)
theorem dX3_readerValue_32 : decode cX3_readerValue 32 = .ok (.getfield 374, 3) := dk_180 1 118 (dk_at dksX3_readerValue_1 8 rfl rfl)
theorem dX3_readerValue_35 : decode cX3_readerValue 35 = .ok (.invokevirtual 375, 3) := dk_182 1 119 (dk_at dksX3_readerValue_1 11 rfl rfl)
theorem dX3_readerValue_38 : decode cX3_readerValue 38 = .ok (.ireturn, 1) := dk_172 (dk_at dksX3_readerValue_1 14 rfl rfl)
theorem dX3_readerValue_39 : decode cX3_readerValue 39 = .ok (.astore_n 3, 1) := dk_78 (dk_at dksX3_readerValue_1 15 rfl rfl)
theorem dX3_readerValue_40 : decode cX3_readerValue 40 = .ok (.sipush (-1000), 3) := dk_17 252 24 (dk_at dksX3_readerValue_1 16 rfl rfl)
theorem dX3_readerValue_43 : decode cX3_readerValue 43 = .ok (.ireturn, 1) := dk_172 (dk_at dksX3_readerValue_1 19 rfl rfl)
/-! PageGarden$Garden.readerValue(II)I -/
abbrev M_X3_readerValue (z0 n0 : Nat) (s' : gS) : gM := (RX3, cX3_readerValue, 4, (some FieldType.int), "readerValue", tableOf [(0, 38, 39, 378)], 110, z0, n0, s'.2.1, s'.2.2)
abbrev W_X3_readerValue (E : gE) (z0 n0 : Nat) (r : Int32) (s' : gS) (pc : Nat) (L : List (Nat × gV)) (st : List gV) (s : gS) : Prop := gW E (M_X3_readerValue z0 n0 s') (gQm E (M_X3_readerValue z0 n0 s') (.inl (some (vI r))) s') pc L st s
noncomputable def f_X3_readerValue_39 (κ : gK) (F : Nat)   (s : gS) : Option (Int32 × gS) :=
  some ((-1000 : Int32), s)
set_option maxHeartbeats 4000000 in
theorem w_X3_readerValue_39 {E : gE} {F z0 n0 : Nat} {r : Int32} {s' : gS}   : ∀   (q : Option Nat) (s : gS), f_X3_readerValue_39 (gk E) F   s = some (r, s') → W_X3_readerValue E z0 n0 r s' 39 [] [vR q] s := by
  intro  q s hB
  unfold f_X3_readerValue_39 at hB
  refine gw_astore_n (L' := [(3, vR q)]) (Nat.le_of_ble_eq_true rfl) rfl dX3_readerValue_39 ?_
  refine gw_sipush (v := (-1000 : Int32)) (by decide) dX3_readerValue_40 ?_
  obtain ⟨rfl, rfl⟩ := Prod.mk.inj (Option.some.inj hB)
  exact gw_iret rfl rfl rfl dX3_readerValue_43
noncomputable def f_X3_readerValue_38 (κ : gK) (F : Nat)  (t0 : Int32) (s : gS) : Option (Int32 × gS) :=
  some (t0, s)
set_option maxHeartbeats 4000000 in
theorem w_X3_readerValue_38 {E : gE} {F z0 n0 : Nat} {r : Int32} {s' : gS}   : ∀  (t0 : Int32) (s : gS), f_X3_readerValue_38 (gk E) F  t0 s = some (r, s') → W_X3_readerValue E z0 n0 r s' 38 [] [vI t0] s := by
  intro t0 s hB
  unfold f_X3_readerValue_38 at hB
  obtain ⟨rfl, rfl⟩ := Prod.mk.inj (Option.some.inj hB)
  exact gw_iret rfl rfl rfl dX3_readerValue_38
noncomputable def f_X3_readerValue_0 (κ : gK) (F : Nat)  (l0 : Option Nat) (l1 : Int32) (l2 : Int32) (s : gS) : Option (Int32 × gS) :=
  gB1 (gfR s l0 7 5) fun v1 =>
  gB1 (gaR s v1 l1) fun v2 =>
  if l2 = 0 then
    if v2 = none then f_X3_readerValue_39 κ F  (gnpe s) else
    gB1 (gfI s v2 5 0) fun v8 =>
    f_X3_readerValue_38 κ F  v8 s
  else
    if l2 = (1 : Int32) then
      if v2 = none then f_X3_readerValue_39 κ F  (gnpe s) else
      gB1 (gfI s v2 5 1) fun v7 =>
      f_X3_readerValue_38 κ F  v7 s
    else
      if v2 = none then f_X3_readerValue_39 κ F  (gnpe s) else
      gB1 (gfI s v2 5 1) fun v3 =>
      gB1 (gck s l0 7) fun _ =>
      gB2 (f_X3_entriesBy κ F l0 v3 s) fun v5 s4 =>
      f_X3_readerValue_38 κ F  v5 s4
set_option maxHeartbeats 4000000 in
theorem w_X3_readerValue_0 {E : gE} {F z0 n0 : Nat} {r : Int32} {s' : gS}   : ∀ (l0 : Option Nat) (l1 : Int32) (l2 : Int32)  (s : gS), f_X3_readerValue_0 (gk E) F  l0 l1 l2 s = some (r, s') → W_X3_readerValue E z0 n0 r s' 0 [(0, vR l0), (1, vI l1), (2, vI l2)] [] s := by
  intro l0 l1 l2 s hB
  unfold f_X3_readerValue_0 at hB
  refine gw_aload_n 0 rfl dX3_readerValue_0 ?_
  obtain ⟨v1, hv1, hB⟩ := gB1_some hB
  refine gw_getf (C := RX3) (T := TX3) (N := 9) (k := 5) gcl7 (by decide) in_X3 q287 (gfR_spec hv1) dX3_readerValue_1 ?_
  refine gw_iload_n 1 rfl dX3_readerValue_4 ?_
  obtain ⟨v2, hv2, hB⟩ := gB1_some hB
  refine gw_aaload hv2 dX3_readerValue_5 ?_
  refine gw_astore_n (L' := [(3, vR v2), (0, vR l0), (1, vI l1), (2, vI l2)]) (Nat.le_of_ble_eq_true rfl) rfl dX3_readerValue_6 ?_
  refine gw_iload_n 3 rfl dX3_readerValue_7 ?_
  refine gw_if_ne (tgt := 18) dX3_readerValue_8 (by decide) (fun hcnd => ?_) (fun hcnd => ?_)
  · rw [if_neg hcnd] at hB
    refine gw_iload_n 3 rfl dX3_readerValue_18 ?_
    refine gw_iconst (v := (1 : Int32)) (by decide) dX3_readerValue_19 ?_
    refine gw_icmp_ne (tgt := 30) dX3_readerValue_20 (by decide) (fun hcnd => ?_) (fun hcnd => ?_)
    · rw [if_neg hcnd] at hB
      refine gw_aload_n 1 rfl dX3_readerValue_30 ?_
      refine gw_aload_n 0 rfl dX3_readerValue_31 ?_
      by_cases hnv3 : v2 = none
      · rw [if_pos hnv3] at hB
        subst hnv3
        exact gw_npeN (C := RX10) (T := TX10) (N := 2) (k := 1) gcl5 (by decide) in_X10 q2326 (Nat.le_of_ble_eq_true rfl) (Nat.le_of_ble_eq_true rfl) dX3_readerValue_32 (gx_catch (own := "PageGarden$Garden") rfl [] ⟨0, 38, 39, 378⟩ [] rfl (fun z hz => by cases hz) rfl (by decide) q2434 q2456 (tgt := 39) rfl (fun q => gw_sub [] rfl (w_X3_readerValue_39  q _ hB)))
      rw [if_neg hnv3] at hB
      obtain ⟨v3, hv3, hB⟩ := gB1_some hB
      refine gw_getfN (C := RX10) (T := TX10) (N := 2) (k := 1) gcl5 (by decide) in_X10 q2326 (gfI_spec hv3) dX3_readerValue_32 ?_
      obtain ⟨u0, hu6, hB⟩ := gB1_some hB
      obtain ⟨v5, s4, hv5, hB⟩ := gB2_some hB
      refine gw_callV (y := yX3_entriesBy) (lw_V q2399 q2400 q2401 q110 q2402) hdV_X3_entriesBy gcl7 hu6 (As := [vI v3]) (rest := []) (m_X3_entriesBy _ _ _ _ _ hv5) (Nat.le_of_ble_eq_true rfl) (Nat.le_of_ble_eq_true rfl) rfl (Nat.le_of_ble_eq_true rfl) dX3_readerValue_35 (gCont_i ?_)
      exact gw_sub [] rfl (w_X3_readerValue_38  _ _ hB)
    · rw [if_pos hcnd] at hB
      refine gw_aload_n 0 rfl dX3_readerValue_23 ?_
      by_cases hnv7 : v2 = none
      · rw [if_pos hnv7] at hB
        subst hnv7
        exact gw_npeN (C := RX10) (T := TX10) (N := 2) (k := 1) gcl5 (by decide) in_X10 q2326 (Nat.le_of_ble_eq_true rfl) (Nat.le_of_ble_eq_true rfl) dX3_readerValue_24 (gx_catch (own := "PageGarden$Garden") rfl [] ⟨0, 38, 39, 378⟩ [] rfl (fun z hz => by cases hz) rfl (by decide) q2434 q2456 (tgt := 39) rfl (fun q => gw_sub [] rfl (w_X3_readerValue_39  q _ hB)))
      rw [if_neg hnv7] at hB
      obtain ⟨v7, hv7, hB⟩ := gB1_some hB
      refine gw_getfN (C := RX10) (T := TX10) (N := 2) (k := 1) gcl5 (by decide) in_X10 q2326 (gfI_spec hv7) dX3_readerValue_24 ?_
      refine gw_goto (tgt := 38) dX3_readerValue_27 (by decide) ?_
      exact gw_sub [] rfl (w_X3_readerValue_38  _ _ hB)
  · rw [if_pos hcnd] at hB
    refine gw_aload_n 0 rfl dX3_readerValue_11 ?_
    by_cases hnv8 : v2 = none
    · rw [if_pos hnv8] at hB
      subst hnv8
      exact gw_npeN (C := RX10) (T := TX10) (N := 2) (k := 0) gcl5 (by decide) in_X10 q2323 (Nat.le_of_ble_eq_true rfl) (Nat.le_of_ble_eq_true rfl) dX3_readerValue_12 (gx_catch (own := "PageGarden$Garden") rfl [] ⟨0, 38, 39, 378⟩ [] rfl (fun z hz => by cases hz) rfl (by decide) q2434 q2456 (tgt := 39) rfl (fun q => gw_sub [] rfl (w_X3_readerValue_39  q _ hB)))
    rw [if_neg hnv8] at hB
    obtain ⟨v8, hv8, hB⟩ := gB1_some hB
    refine gw_getfN (C := RX10) (T := TX10) (N := 2) (k := 0) gcl5 (by decide) in_X10 q2323 (gfI_spec hv8) dX3_readerValue_12 ?_
    refine gw_goto (tgt := 38) dX3_readerValue_15 (by decide) ?_
    exact gw_sub [] rfl (w_X3_readerValue_38  _ _ hB)
noncomputable def f_X3_readerValue (κ : gK) (F : Nat) (a0 : Option Nat) (a1 : Int32) (a2 : Int32) (s : gS) : Option (Int32 × gS) := f_X3_readerValue_0 κ F a0 a1 a2 s
theorem m_X3_readerValue {E : gE} {F : Nat} (a0 : Option Nat) (a1 : Int32) (a2 : Int32) (s : gS) (r : Int32) (s' : gS) (h : f_X3_readerValue (gk E) F a0 a1 a2 s = some (r, s')) : gCT E 110 yX3_readerValue (wsW_ yX3_readerValue cX3_readerValue 4 (some FieldType.int) [(0, 38, 39, 378)]) [vR a0, vI a1, vI a2] s (.inl (some (vI r))) s' := by
  refine gCT_ofH (fun h => absurd h (by decide)) (by decide) (Nat.le_of_ble_eq_true rfl) ?_
  exact gw_sub [0, 1, 2] rfl (w_X3_readerValue_0 _ _ _ _ h)
def dkwX9_without_4 : List UInt8 := [89, 45, 25, 4, 183, 0, 35, 176]
abbrev dktX9_without_4 : List UInt8 := dkwX9_without_4 ++ []
def dkwX9_without_3 : List UInt8 := [28, 162, 0, 8, 21, 5, 167, 0, 7, 21, 5, 4, 96, 46, 79, 132, 5, 1, 167, 255, 197, 187, 0, 8]
abbrev dktX9_without_3 : List UInt8 := dkwX9_without_3 ++ dktX9_without_4
def dkwX9_without_2 : List UInt8 := [162, 0, 8, 21, 5, 167, 0, 7, 21, 5, 4, 96, 46, 79, 25, 4, 21, 5, 42, 180, 0, 13, 21, 5]
abbrev dktX9_without_2 : List UInt8 := dkwX9_without_2 ++ dktX9_without_3
def dkwX9_without_1 : List UInt8 := [188, 10, 58, 4, 3, 54, 5, 21, 5, 45, 190, 162, 0, 58, 45, 21, 5, 42, 180, 0, 7, 21, 5, 28]
abbrev dktX9_without_1 : List UInt8 := dkwX9_without_1 ++ dktX9_without_2
def dkwX9_without_0 : List UInt8 := [42, 27, 182, 0, 16, 61, 42, 180, 0, 7, 190, 4, 100, 188, 10, 78, 42, 180, 0, 7, 190, 4, 100]
abbrev dktX9_without_0 : List UInt8 := dkwX9_without_0 ++ dktX9_without_1
theorem dksX9_without_0 : cX9_without.data.toList.drop 0 = dktX9_without_0 := by decide +kernel
theorem dksX9_without_1 : cX9_without.data.toList.drop 23 = dktX9_without_1 := dk_seg dksX9_without_0 23 rfl rfl
theorem dksX9_without_2 : cX9_without.data.toList.drop 47 = dktX9_without_2 := dk_seg dksX9_without_1 24 rfl rfl
theorem dksX9_without_3 : cX9_without.data.toList.drop 71 = dktX9_without_3 := dk_seg dksX9_without_2 24 rfl rfl
theorem dksX9_without_4 : cX9_without.data.toList.drop 95 = dktX9_without_4 := dk_seg dksX9_without_3 24 rfl rfl
theorem dX9_without_0 : decode cX9_without 0 = .ok (.aload_n 0, 1) := dk_42 (dk_at dksX9_without_0 0 rfl rfl)
theorem dX9_without_1 : decode cX9_without 1 = .ok (.iload_n 1, 1) := dk_27 (dk_at dksX9_without_0 1 rfl rfl)
theorem dX9_without_2 : decode cX9_without 2 = .ok (.invokevirtual 16, 3) := dk_182 0 16 (dk_at dksX9_without_0 2 rfl rfl)
theorem dX9_without_5 : decode cX9_without 5 = .ok (.istore_n 2, 1) := dk_61 (dk_at dksX9_without_0 5 rfl rfl)
theorem dX9_without_6 : decode cX9_without 6 = .ok (.aload_n 0, 1) := dk_42 (dk_at dksX9_without_0 6 rfl rfl)
theorem dX9_without_7 : decode cX9_without 7 = .ok (.getfield 7, 3) := dk_180 0 7 (dk_at dksX9_without_0 7 rfl rfl)
theorem dX9_without_10 : decode cX9_without 10 = .ok (.arraylength, 1) := dk_190 (dk_at dksX9_without_0 10 rfl rfl)
theorem dX9_without_11 : decode cX9_without 11 = .ok (.iconst 1, 1) := dk_4 (dk_at dksX9_without_0 11 rfl rfl)
theorem dX9_without_12 : decode cX9_without 12 = .ok (.isub, 1) := dk_100 (dk_at dksX9_without_0 12 rfl rfl)
theorem dX9_without_13 : decode cX9_without 13 = .ok (.newarray .int, 2) := dk_188_10 (dk_at dksX9_without_0 13 rfl rfl)
theorem dX9_without_15 : decode cX9_without 15 = .ok (.astore_n 3, 1) := dk_78 (dk_at dksX9_without_0 15 rfl rfl)
theorem dX9_without_16 : decode cX9_without 16 = .ok (.aload_n 0, 1) := dk_42 (dk_at dksX9_without_0 16 rfl rfl)
theorem dX9_without_17 : decode cX9_without 17 = .ok (.getfield 7, 3) := dk_180 0 7 (dk_at dksX9_without_0 17 rfl rfl)
theorem dX9_without_20 : decode cX9_without 20 = .ok (.arraylength, 1) := dk_190 (dk_at dksX9_without_0 20 rfl rfl)
theorem dX9_without_21 : decode cX9_without 21 = .ok (.iconst 1, 1) := dk_4 (dk_at dksX9_without_0 21 rfl rfl)
theorem dX9_without_22 : decode cX9_without 22 = .ok (.isub, 1) := dk_100 (dk_at dksX9_without_0 22 rfl rfl)
theorem dX9_without_23 : decode cX9_without 23 = .ok (.newarray .int, 2) := dk_188_10 (dk_at dksX9_without_1 0 rfl rfl)
theorem dX9_without_25 : decode cX9_without 25 = .ok (.astore 4, 2) := dk_58 4 (dk_at dksX9_without_1 2 rfl rfl)
theorem dX9_without_27 : decode cX9_without 27 = .ok (.iconst 0, 1) := dk_3 (dk_at dksX9_without_1 4 rfl rfl)
theorem dX9_without_28 : decode cX9_without 28 = .ok (.istore 5, 2) := dk_54 5 (dk_at dksX9_without_1 5 rfl rfl)
theorem dX9_without_30 : decode cX9_without 30 = .ok (.iload 5, 2) := dk_21 5 (dk_at dksX9_without_1 7 rfl rfl)
theorem dX9_without_32 : decode cX9_without 32 = .ok (.aload_n 3, 1) := dk_45 (dk_at dksX9_without_1 9 rfl rfl)
theorem dX9_without_33 : decode cX9_without 33 = .ok (.arraylength, 1) := dk_190 (dk_at dksX9_without_1 10 rfl rfl)
theorem dX9_without_34 : decode cX9_without 34 = .ok (.if_icmp .ge 58, 3) := dk_162 0 58 (dk_at dksX9_without_1 11 rfl rfl)
theorem dX9_without_37 : decode cX9_without 37 = .ok (.aload_n 3, 1) := dk_45 (dk_at dksX9_without_1 14 rfl rfl)
theorem dX9_without_38 : decode cX9_without 38 = .ok (.iload 5, 2) := dk_21 5 (dk_at dksX9_without_1 15 rfl rfl)
theorem dX9_without_40 : decode cX9_without 40 = .ok (.aload_n 0, 1) := dk_42 (dk_at dksX9_without_1 17 rfl rfl)
theorem dX9_without_41 : decode cX9_without 41 = .ok (.getfield 7, 3) := dk_180 0 7 (dk_at dksX9_without_1 18 rfl rfl)
theorem dX9_without_44 : decode cX9_without 44 = .ok (.iload 5, 2) := dk_21 5 (dk_at dksX9_without_1 21 rfl rfl)
theorem dX9_without_46 : decode cX9_without 46 = .ok (.iload_n 2, 1) := dk_28 (dk_at dksX9_without_1 23 rfl rfl)
theorem dX9_without_47 : decode cX9_without 47 = .ok (.if_icmp .ge 8, 3) := dk_162 0 8 (dk_at dksX9_without_2 0 rfl rfl)
theorem dX9_without_50 : decode cX9_without 50 = .ok (.iload 5, 2) := dk_21 5 (dk_at dksX9_without_2 3 rfl rfl)
theorem dX9_without_52 : decode cX9_without 52 = .ok (.goto 7, 3) := dk_167 0 7 (dk_at dksX9_without_2 5 rfl rfl)
theorem dX9_without_55 : decode cX9_without 55 = .ok (.iload 5, 2) := dk_21 5 (dk_at dksX9_without_2 8 rfl rfl)
theorem dX9_without_57 : decode cX9_without 57 = .ok (.iconst 1, 1) := dk_4 (dk_at dksX9_without_2 10 rfl rfl)
theorem dX9_without_58 : decode cX9_without 58 = .ok (.iadd, 1) := dk_96 (dk_at dksX9_without_2 11 rfl rfl)
theorem dX9_without_59 : decode cX9_without 59 = .ok (.iaload, 1) := dk_46 (dk_at dksX9_without_2 12 rfl rfl)
theorem dX9_without_60 : decode cX9_without 60 = .ok (.iastore, 1) := dk_79 (dk_at dksX9_without_2 13 rfl rfl)
theorem dX9_without_61 : decode cX9_without 61 = .ok (.aload 4, 2) := dk_25 4 (dk_at dksX9_without_2 14 rfl rfl)
theorem dX9_without_63 : decode cX9_without 63 = .ok (.iload 5, 2) := dk_21 5 (dk_at dksX9_without_2 16 rfl rfl)
theorem dX9_without_65 : decode cX9_without 65 = .ok (.aload_n 0, 1) := dk_42 (dk_at dksX9_without_2 18 rfl rfl)
theorem dX9_without_66 : decode cX9_without 66 = .ok (.getfield 13, 3) := dk_180 0 13 (dk_at dksX9_without_2 19 rfl rfl)
theorem dX9_without_69 : decode cX9_without 69 = .ok (.iload 5, 2) := dk_21 5 (dk_at dksX9_without_2 22 rfl rfl)
theorem dX9_without_71 : decode cX9_without 71 = .ok (.iload_n 2, 1) := dk_28 (dk_at dksX9_without_3 0 rfl rfl)
theorem dX9_without_72 : decode cX9_without 72 = .ok (.if_icmp .ge 8, 3) := dk_162 0 8 (dk_at dksX9_without_3 1 rfl rfl)
theorem dX9_without_75 : decode cX9_without 75 = .ok (.iload 5, 2) := dk_21 5 (dk_at dksX9_without_3 4 rfl rfl)
theorem dX9_without_77 : decode cX9_without 77 = .ok (.goto 7, 3) := dk_167 0 7 (dk_at dksX9_without_3 6 rfl rfl)
theorem dX9_without_80 : decode cX9_without 80 = .ok (.iload 5, 2) := dk_21 5 (dk_at dksX9_without_3 9 rfl rfl)
theorem dX9_without_82 : decode cX9_without 82 = .ok (.iconst 1, 1) := dk_4 (dk_at dksX9_without_3 11 rfl rfl)
theorem dX9_without_83 : decode cX9_without 83 = .ok (.iadd, 1) := dk_96 (dk_at dksX9_without_3 12 rfl rfl)
theorem dX9_without_84 : decode cX9_without 84 = .ok (.iaload, 1) := dk_46 (dk_at dksX9_without_3 13 rfl rfl)
theorem dX9_without_85 : decode cX9_without 85 = .ok (.iastore, 1) := dk_79 (dk_at dksX9_without_3 14 rfl rfl)
theorem dX9_without_86 : decode cX9_without 86 = .ok (.iinc 5 1, 3) := dk_132 5 1 (dk_at dksX9_without_3 15 rfl rfl)
theorem dX9_without_89 : decode cX9_without 89 = .ok (.goto (-59), 3) := dk_167 255 197 (dk_at dksX9_without_3 18 rfl rfl)
theorem dX9_without_92 : decode cX9_without 92 = .ok (.new 8, 3) := dk_187 0 8 (dk_at dksX9_without_3 21 rfl rfl)
theorem dX9_without_95 : decode cX9_without 95 = .ok (.dup, 1) := dk_89 (dk_at dksX9_without_4 0 rfl rfl)
theorem dX9_without_96 : decode cX9_without 96 = .ok (.aload_n 3, 1) := dk_45 (dk_at dksX9_without_4 1 rfl rfl)
theorem dX9_without_97 : decode cX9_without 97 = .ok (.aload 4, 2) := dk_25 4 (dk_at dksX9_without_4 2 rfl rfl)
theorem dX9_without_99 : decode cX9_without 99 = .ok (.invokespecial 35, 3) := dk_183 0 35 (dk_at dksX9_without_4 4 rfl rfl)
theorem dX9_without_102 : decode cX9_without 102 = .ok (.areturn, 1) := dk_176 (dk_at dksX9_without_4 7 rfl rfl)
/-! PageGarden$Leaf.without(I)LPageGarden$Leaf; -/
abbrev M_X9_without (z0 n0 : Nat) (s' : gS) : gM := (RX9, cX9_without, 6, (some (FieldType.object "PageGarden$Leaf")), "without", [], 2, z0, n0, s'.2.1, s'.2.2)
abbrev W_X9_without (E : gE) (z0 n0 : Nat) (r : (Option Nat)) (s' : gS) (pc : Nat) (L : List (Nat × gV)) (st : List gV) (s : gS) : Prop := gW E (M_X9_without z0 n0 s') (gQm E (M_X9_without z0 n0 s') (.inl (some (vR r))) s') pc L st s
noncomputable def f_X9_without_84 (κ : gK) (F : Nat) (k30 : Option Nat → Int32 → Option Nat → Option Nat → Int32 → gS → Option ((Option Nat) × gS)) (l0 : Option Nat) (l2 : Int32) (l3 : Option Nat) (l4 : Option Nat) (l5 : Int32) (t0 : Option Nat) (t1 : Int32) (t2 : Option Nat) (t3 : Int32) (s : gS) : Option ((Option Nat) × gS) :=
  gB1 (gaI s t2 0 t3) fun v1 =>
  gB1 (gsI κ s t0 t1 v1) fun s2 =>
  k30 l0 l2 l3 l4 (l5 + (1 : Int32)) s2
set_option maxHeartbeats 4000000 in
theorem w_X9_without_84 {E : gE} {F z0 n0 : Nat} {r : (Option Nat)} {s' : gS} {k30 : Option Nat → Int32 → Option Nat → Option Nat → Int32 → gS → Option ((Option Nat) × gS)} (hk30 : ∀ (l0 : Option Nat) (l2 : Int32) (l3 : Option Nat) (l4 : Option Nat) (l5 : Int32) (s : gS), k30 l0 l2 l3 l4 l5 s = some (r, s') → W_X9_without E z0 n0 r s' 30 [(0, vR l0), (2, vI l2), (3, vR l3), (4, vR l4), (5, vI l5)] [] s) : ∀ (l0 : Option Nat) (l2 : Int32) (l3 : Option Nat) (l4 : Option Nat) (l5 : Int32) (t0 : Option Nat) (t1 : Int32) (t2 : Option Nat) (t3 : Int32) (s : gS), f_X9_without_84 (gk E) F k30 l0 l2 l3 l4 l5 t0 t1 t2 t3 s = some (r, s') → W_X9_without E z0 n0 r s' 84 [(0, vR l0), (2, vI l2), (3, vR l3), (4, vR l4), (5, vI l5)] [vI t3, vR t2, vI t1, vR t0] s := by
  intro l0 l2 l3 l4 l5 t0 t1 t2 t3 s hB
  unfold f_X9_without_84 at hB
  obtain ⟨v1, hv1, hB⟩ := gB1_some hB
  refine gw_iaload hv1 dX9_without_84 ?_
  obtain ⟨s2, hs2, hB⟩ := gB1_some hB
  refine gw_iastore hs2 dX9_without_85 ?_
  refine gw_iinc (w := (1 : Int32)) (L' := [(5, vI (l5 + (1 : Int32))), (0, vR l0), (2, vI l2), (3, vR l3), (4, vR l4)]) 4 rfl (by decide) (Nat.le_of_ble_eq_true rfl) rfl dX9_without_86 ?_
  refine gw_goto (tgt := 30) dX9_without_89 (by decide) ?_
  exact gw_sub [1, 2, 3, 4, 0] rfl (hk30 _ _ _ _ _ _ hB)
noncomputable def f_X9_without_59 (κ : gK) (F : Nat) (k30 : Option Nat → Int32 → Option Nat → Option Nat → Int32 → gS → Option ((Option Nat) × gS)) (l0 : Option Nat) (l2 : Int32) (l3 : Option Nat) (l4 : Option Nat) (l5 : Int32) (t0 : Option Nat) (t1 : Int32) (t2 : Option Nat) (t3 : Int32) (s : gS) : Option ((Option Nat) × gS) :=
  gB1 (gaI s t2 0 t3) fun v1 =>
  gB1 (gsI κ s t0 t1 v1) fun s2 =>
  gB1 (gfR s2 l0 2 1) fun v3 =>
  if l2 ≤ l5 then
    f_X9_without_84 κ F k30 l0 l2 l3 l4 l5 l4 l5 v3 (l5 + (1 : Int32)) s2
  else
    f_X9_without_84 κ F k30 l0 l2 l3 l4 l5 l4 l5 v3 l5 s2
set_option maxHeartbeats 4000000 in
theorem w_X9_without_59 {E : gE} {F z0 n0 : Nat} {r : (Option Nat)} {s' : gS} {k30 : Option Nat → Int32 → Option Nat → Option Nat → Int32 → gS → Option ((Option Nat) × gS)} (hk30 : ∀ (l0 : Option Nat) (l2 : Int32) (l3 : Option Nat) (l4 : Option Nat) (l5 : Int32) (s : gS), k30 l0 l2 l3 l4 l5 s = some (r, s') → W_X9_without E z0 n0 r s' 30 [(0, vR l0), (2, vI l2), (3, vR l3), (4, vR l4), (5, vI l5)] [] s) : ∀ (l0 : Option Nat) (l2 : Int32) (l3 : Option Nat) (l4 : Option Nat) (l5 : Int32) (t0 : Option Nat) (t1 : Int32) (t2 : Option Nat) (t3 : Int32) (s : gS), f_X9_without_59 (gk E) F k30 l0 l2 l3 l4 l5 t0 t1 t2 t3 s = some (r, s') → W_X9_without E z0 n0 r s' 59 [(0, vR l0), (2, vI l2), (3, vR l3), (4, vR l4), (5, vI l5)] [vI t3, vR t2, vI t1, vR t0] s := by
  intro l0 l2 l3 l4 l5 t0 t1 t2 t3 s hB
  unfold f_X9_without_59 at hB
  obtain ⟨v1, hv1, hB⟩ := gB1_some hB
  refine gw_iaload hv1 dX9_without_59 ?_
  obtain ⟨s2, hs2, hB⟩ := gB1_some hB
  refine gw_iastore hs2 dX9_without_60 ?_
  refine gw_aload 3 rfl dX9_without_61 ?_
  refine gw_iload 4 rfl dX9_without_63 ?_
  refine gw_aload_n 0 rfl dX9_without_65 ?_
  obtain ⟨v3, hv3, hB⟩ := gB1_some hB
  refine gw_getf (C := RX9) (T := TX9) (N := 2) (k := 1) gcl2 (by decide) in_X9 q2172 (gfR_spec hv3) dX9_without_66 ?_
  refine gw_iload 4 rfl dX9_without_69 ?_
  refine gw_iload_n 1 rfl dX9_without_71 ?_
  refine gw_icmp_ge (tgt := 80) dX9_without_72 (by decide) (fun hcnd => ?_) (fun hcnd => ?_)
  · rw [if_pos hcnd] at hB
    refine gw_iload 4 rfl dX9_without_80 ?_
    refine gw_iconst (v := (1 : Int32)) (by decide) dX9_without_82 ?_
    refine gw_iadd dX9_without_83 ?_
    exact gw_sub [0, 1, 2, 3, 4] rfl (w_X9_without_84 hk30 _ _ _ _ _ _ _ _ _ _ hB)
  · rw [if_neg hcnd] at hB
    refine gw_iload 4 rfl dX9_without_75 ?_
    refine gw_goto (tgt := 84) dX9_without_77 (by decide) ?_
    exact gw_sub [0, 1, 2, 3, 4] rfl (w_X9_without_84 hk30 _ _ _ _ _ _ _ _ _ _ hB)
noncomputable def f_X9_without_30b (κ : gK) (F : Nat) (k30 : Option Nat → Int32 → Option Nat → Option Nat → Int32 → gS → Option ((Option Nat) × gS)) (l0 : Option Nat) (l2 : Int32) (l3 : Option Nat) (l4 : Option Nat) (l5 : Int32) (s : gS) : Option ((Option Nat) × gS) :=
  gB1 (gal s l3) fun v1 =>
  if v1 ≤ l5 then
    gB2 (gnw s 2 g0_X9 2) fun v2 s3 =>
    gB1 (gsm v2) fun _ =>
    gB2 (f_X9_init κ F v2 l3 l4 s3) fun v5 s4 =>
    some (v2, s4)
  else
    gB1 (gfR s l0 2 0) fun v7 =>
    if l2 ≤ l5 then
      f_X9_without_59 κ F k30 l0 l2 l3 l4 l5 l3 l5 v7 (l5 + (1 : Int32)) s
    else
      f_X9_without_59 κ F k30 l0 l2 l3 l4 l5 l3 l5 v7 l5 s
noncomputable def f_X9_without_30 (κ : gK) (F : Nat)  : Nat → Option Nat → Int32 → Option Nat → Option Nat → Int32 → gS → Option ((Option Nat) × gS)
  | 0 => fun _ _ _ _ _ _ => none
  | n + 1 => f_X9_without_30b κ F  (f_X9_without_30 κ F  n)
set_option maxHeartbeats 4000000 in
theorem w_X9_without_30b {E : gE} {F z0 n0 : Nat} {r : (Option Nat)} {s' : gS} {k30 : Option Nat → Int32 → Option Nat → Option Nat → Int32 → gS → Option ((Option Nat) × gS)} (hk30 : ∀ (l0 : Option Nat) (l2 : Int32) (l3 : Option Nat) (l4 : Option Nat) (l5 : Int32) (s : gS), k30 l0 l2 l3 l4 l5 s = some (r, s') → W_X9_without E z0 n0 r s' 30 [(0, vR l0), (2, vI l2), (3, vR l3), (4, vR l4), (5, vI l5)] [] s) : ∀ (l0 : Option Nat) (l2 : Int32) (l3 : Option Nat) (l4 : Option Nat) (l5 : Int32)  (s : gS), f_X9_without_30b (gk E) F k30 l0 l2 l3 l4 l5 s = some (r, s') → W_X9_without E z0 n0 r s' 30 [(0, vR l0), (2, vI l2), (3, vR l3), (4, vR l4), (5, vI l5)] [] s := by
  intro l0 l2 l3 l4 l5 s hB
  unfold f_X9_without_30b at hB
  refine gw_iload 4 rfl dX9_without_30 ?_
  refine gw_aload_n 2 rfl dX9_without_32 ?_
  obtain ⟨v1, hv1, hB⟩ := gB1_some hB
  refine gw_alen hv1 dX9_without_33 ?_
  refine gw_icmp_ge (tgt := 92) dX9_without_34 (by decide) (fun hcnd => ?_) (fun hcnd => ?_)
  · rw [if_pos hcnd] at hB
    obtain ⟨v2, s3, hv2, hB⟩ := gB2_some hB
    refine gw_new (C := RX9) (T := TX9) (N := 2) tyX9 tyX9_ok gcl2 in_X9 q2199 q2165 q160 g0_X9_ok hv2 dX9_without_92 ?_
    refine gw_dup rfl dX9_without_95 ?_
    refine gw_aload_n 2 rfl dX9_without_96 ?_
    refine gw_aload 3 rfl dX9_without_97 ?_
    obtain ⟨u0, hu6, hB⟩ := gB1_some hB
    obtain ⟨v5, s4, hv5, hB⟩ := gB2_some hB
    refine gw_callI (y := yX9_init) (lw_meth q2168) q160 q2200 q2167 rfl hdS_X9_init (gsm_spec hu6) (As := [vR l3, vR l4]) (rest := [vR v2]) (m_X9_init _ _ _ _ _ _ hv5) (Nat.le_of_ble_eq_true rfl) (Nat.le_of_ble_eq_true rfl) rfl (Nat.le_of_ble_eq_true rfl) dX9_without_99 (gCont_v ?_)
    obtain ⟨rfl, rfl⟩ := Prod.mk.inj (Option.some.inj hB)
    exact gw_aret rfl (Or.inl ⟨_, rfl⟩) rfl rfl dX9_without_102
  · rw [if_neg hcnd] at hB
    refine gw_aload_n 2 rfl dX9_without_37 ?_
    refine gw_iload 4 rfl dX9_without_38 ?_
    refine gw_aload_n 0 rfl dX9_without_40 ?_
    obtain ⟨v7, hv7, hB⟩ := gB1_some hB
    refine gw_getf (C := RX9) (T := TX9) (N := 2) (k := 0) gcl2 (by decide) in_X9 q2170 (gfR_spec hv7) dX9_without_41 ?_
    refine gw_iload 4 rfl dX9_without_44 ?_
    refine gw_iload_n 1 rfl dX9_without_46 ?_
    refine gw_icmp_ge (tgt := 55) dX9_without_47 (by decide) (fun hcnd => ?_) (fun hcnd => ?_)
    · rw [if_pos hcnd] at hB
      refine gw_iload 4 rfl dX9_without_55 ?_
      refine gw_iconst (v := (1 : Int32)) (by decide) dX9_without_57 ?_
      refine gw_iadd dX9_without_58 ?_
      exact gw_sub [0, 1, 2, 3, 4] rfl (w_X9_without_59 hk30 _ _ _ _ _ _ _ _ _ _ hB)
    · rw [if_neg hcnd] at hB
      refine gw_iload 4 rfl dX9_without_50 ?_
      refine gw_goto (tgt := 59) dX9_without_52 (by decide) ?_
      exact gw_sub [0, 1, 2, 3, 4] rfl (w_X9_without_59 hk30 _ _ _ _ _ _ _ _ _ _ hB)
theorem w_X9_without_30 {E : gE} {F z0 n0 : Nat} {r : (Option Nat)} {s' : gS}   : ∀ (n : Nat) (l0 : Option Nat) (l2 : Int32) (l3 : Option Nat) (l4 : Option Nat) (l5 : Int32)  (s : gS), f_X9_without_30 (gk E) F  n l0 l2 l3 l4 l5 s = some (r, s') → W_X9_without E z0 n0 r s' 30 [(0, vR l0), (2, vI l2), (3, vR l3), (4, vR l4), (5, vI l5)] [] s := by
  intro n
  induction n with
  | zero => intro l0 l2 l3 l4 l5 s hB; cases hB
  | succ n ih => intro l0 l2 l3 l4 l5 s hB; exact w_X9_without_30b ih l0 l2 l3 l4 l5 s hB
noncomputable def f_X9_without_0 (κ : gK) (F : Nat)  (l0 : Option Nat) (l1 : Int32) (s : gS) : Option ((Option Nat) × gS) :=
  gB1 (gck s l0 2) fun _ =>
  gB2 (f_X9_placeOf κ F l0 l1 s) fun v2 s1 =>
  gB1 (gfR s1 l0 2 0) fun v4 =>
  gB1 (gal s1 v4) fun v5 =>
  gB2 (gna s1 0 (v5 - (1 : Int32))) fun v6 s7 =>
  gB1 (gfR s7 l0 2 0) fun v8 =>
  gB1 (gal s7 v8) fun v9 =>
  gB2 (gna s7 0 (v9 - (1 : Int32))) fun v10 s11 =>
  f_X9_without_30 κ F  F l0 v2 v6 v10 (0 : Int32) s11
set_option maxHeartbeats 4000000 in
theorem w_X9_without_0 {E : gE} {F z0 n0 : Nat} {r : (Option Nat)} {s' : gS}   : ∀ (l0 : Option Nat) (l1 : Int32)  (s : gS), f_X9_without_0 (gk E) F  l0 l1 s = some (r, s') → W_X9_without E z0 n0 r s' 0 [(0, vR l0), (1, vI l1)] [] s := by
  intro l0 l1 s hB
  unfold f_X9_without_0 at hB
  refine gw_aload_n 0 rfl dX9_without_0 ?_
  refine gw_iload_n 1 rfl dX9_without_1 ?_
  obtain ⟨u0, hu3, hB⟩ := gB1_some hB
  obtain ⟨v2, s1, hv2, hB⟩ := gB2_some hB
  refine gw_callV (y := yX9_placeOf) (lw_V q2067 q2068 q2069 q160 q2070) hdV_X9_placeOf gcl2 hu3 (As := [vI l1]) (rest := []) (m_X9_placeOf _ _ _ _ _ hv2) (Nat.le_of_ble_eq_true rfl) (Nat.le_of_ble_eq_true rfl) rfl (Nat.le_of_ble_eq_true rfl) dX9_without_2 (gCont_i ?_)
  refine gw_istore_n (L' := [(2, vI v2), (0, vR l0), (1, vI l1)]) (Nat.le_of_ble_eq_true rfl) rfl dX9_without_5 ?_
  refine gw_aload_n 1 rfl dX9_without_6 ?_
  obtain ⟨v4, hv4, hB⟩ := gB1_some hB
  refine gw_getf (C := RX9) (T := TX9) (N := 2) (k := 0) gcl2 (by decide) in_X9 q2170 (gfR_spec hv4) dX9_without_7 ?_
  obtain ⟨v5, hv5, hB⟩ := gB1_some hB
  refine gw_alen hv5 dX9_without_10 ?_
  refine gw_iconst (v := (1 : Int32)) (by decide) dX9_without_11 ?_
  refine gw_isub dX9_without_12 ?_
  obtain ⟨v6, s7, hv6, hB⟩ := gB2_some hB
  refine gw_newarr (atype := .int) (t := 0) rfl rfl rfl (by decide) rfl q211 hv6 dX9_without_13 ?_
  refine gw_astore_n (L' := [(3, vR v6), (2, vI v2), (0, vR l0), (1, vI l1)]) (Nat.le_of_ble_eq_true rfl) rfl dX9_without_15 ?_
  refine gw_aload_n 2 rfl dX9_without_16 ?_
  obtain ⟨v8, hv8, hB⟩ := gB1_some hB
  refine gw_getf (C := RX9) (T := TX9) (N := 2) (k := 0) gcl2 (by decide) in_X9 q2170 (gfR_spec hv8) dX9_without_17 ?_
  obtain ⟨v9, hv9, hB⟩ := gB1_some hB
  refine gw_alen hv9 dX9_without_20 ?_
  refine gw_iconst (v := (1 : Int32)) (by decide) dX9_without_21 ?_
  refine gw_isub dX9_without_22 ?_
  obtain ⟨v10, s11, hv10, hB⟩ := gB2_some hB
  refine gw_newarr (atype := .int) (t := 0) rfl rfl rfl (by decide) rfl q211 hv10 dX9_without_23 ?_
  refine gw_astore (L' := [(4, vR v10), (3, vR v6), (2, vI v2), (0, vR l0), (1, vI l1)]) (Nat.le_of_ble_eq_true rfl) rfl dX9_without_25 ?_
  refine gw_iconst (v := (0 : Int32)) (by decide) dX9_without_27 ?_
  refine gw_istore (L' := [(5, vI (0 : Int32)), (4, vR v10), (3, vR v6), (2, vI v2), (0, vR l0), (1, vI l1)]) (Nat.le_of_ble_eq_true rfl) rfl dX9_without_28 ?_
  exact gw_sub [4, 3, 2, 1, 0] rfl (w_X9_without_30  F _ _ _ _ _ _ hB)
noncomputable def f_X9_without (κ : gK) (F : Nat) (a0 : Option Nat) (a1 : Int32) (s : gS) : Option ((Option Nat) × gS) := f_X9_without_0 κ F a0 a1 s
theorem m_X9_without {E : gE} {F : Nat} (a0 : Option Nat) (a1 : Int32) (s : gS) (r : (Option Nat)) (s' : gS) (h : f_X9_without (gk E) F a0 a1 s = some (r, s')) : gCT E 2 yX9_without (ws_ yX9_without cX9_without 6 (some (FieldType.object "PageGarden$Leaf"))) [vR a0, vI a1] s (.inl (some (vR r))) s' := by
  refine gCT_of2 (fun h => absurd h (by decide)) (plainFor_of_name (by decide)) (Nat.le_of_ble_eq_true rfl) ?_
  exact gw_sub [0, 1] rfl (w_X9_without_0 _ _ _ h)
def dkwX3_remove_4 : List UInt8 := [21, 4, 182, 1, 67, 182, 0, 245, 42, 21, 5, 182, 0, 238, 28, 172]
abbrev dktX3_remove_4 : List UInt8 := dkwX3_remove_4 ++ []
def dkwX3_remove_3 : List UInt8 := [182, 0, 249, 4, 164, 0, 18, 42, 21, 4, 25, 6, 27, 182, 1, 64, 182, 1, 52, 167, 0, 19, 42, 45]
abbrev dktX3_remove_3 : List UInt8 := dkwX3_remove_3 ++ dktX3_remove_4
def dkwX3_remove_2 : List UInt8 := [182, 0, 127, 54, 4, 45, 180, 0, 113, 21, 4, 46, 54, 5, 42, 21, 5, 182, 0, 116, 58, 6, 25, 6]
abbrev dktX3_remove_2 : List UInt8 := dkwX3_remove_2 ++ dktX3_remove_3
def dkwX3_remove_1 : List UInt8 := [153, 0, 7, 4, 167, 0, 4, 3, 19, 1, 62, 184, 0, 183, 42, 182, 1, 39, 78, 42, 45, 27]
abbrev dktX3_remove_1 : List UInt8 := dkwX3_remove_1 ++ dktX3_remove_2
def dkwX3_remove_0 : List UInt8 := [27, 184, 1, 18, 42, 27, 182, 1, 36, 61, 28, 17, 252, 24, 159, 0, 15, 42, 27, 182, 1, 59]
abbrev dktX3_remove_0 : List UInt8 := dkwX3_remove_0 ++ dktX3_remove_1
theorem dksX3_remove_0 : cX3_remove.data.toList.drop 0 = dktX3_remove_0 := by decide +kernel
theorem dksX3_remove_1 : cX3_remove.data.toList.drop 22 = dktX3_remove_1 := dk_seg dksX3_remove_0 22 rfl rfl
theorem dksX3_remove_2 : cX3_remove.data.toList.drop 44 = dktX3_remove_2 := dk_seg dksX3_remove_1 22 rfl rfl
theorem dksX3_remove_3 : cX3_remove.data.toList.drop 68 = dktX3_remove_3 := dk_seg dksX3_remove_2 24 rfl rfl
theorem dksX3_remove_4 : cX3_remove.data.toList.drop 92 = dktX3_remove_4 := dk_seg dksX3_remove_3 24 rfl rfl
theorem dX3_remove_0 : decode cX3_remove 0 = .ok (.iload_n 1, 1) := dk_27 (dk_at dksX3_remove_0 0 rfl rfl)
theorem dX3_remove_1 : decode cX3_remove 1 = .ok (.invokestatic 274, 3) := dk_184 1 18 (dk_at dksX3_remove_0 1 rfl rfl)
theorem dX3_remove_4 : decode cX3_remove 4 = .ok (.aload_n 0, 1) := dk_42 (dk_at dksX3_remove_0 4 rfl rfl)
theorem dX3_remove_5 : decode cX3_remove 5 = .ok (.iload_n 1, 1) := dk_27 (dk_at dksX3_remove_0 5 rfl rfl)
theorem dX3_remove_6 : decode cX3_remove 6 = .ok (.invokevirtual 292, 3) := dk_182 1 36 (dk_at dksX3_remove_0 6 rfl rfl)
theorem dX3_remove_9 : decode cX3_remove 9 = .ok (.istore_n 2, 1) := dk_61 (dk_at dksX3_remove_0 9 rfl rfl)
theorem dX3_remove_10 : decode cX3_remove 10 = .ok (.iload_n 2, 1) := dk_28 (dk_at dksX3_remove_0 10 rfl rfl)
theorem dX3_remove_11 : decode cX3_remove 11 = .ok (.sipush (-1000), 3) := dk_17 252 24 (dk_at dksX3_remove_0 11 rfl rfl)
theorem dX3_remove_14 : decode cX3_remove 14 = .ok (.if_icmp .eq 15, 3) := dk_159 0 15 (dk_at dksX3_remove_0 14 rfl rfl)
theorem dX3_remove_17 : decode cX3_remove 17 = .ok (.aload_n 0, 1) := dk_42 (dk_at dksX3_remove_0 17 rfl rfl)
theorem dX3_remove_18 : decode cX3_remove 18 = .ok (.iload_n 1, 1) := dk_27 (dk_at dksX3_remove_0 18 rfl rfl)
theorem dX3_remove_19 : decode cX3_remove 19 = .ok (.invokevirtual 315, 3) := dk_182 1 59 (dk_at dksX3_remove_0 19 rfl rfl)
theorem dX3_remove_22 : decode cX3_remove 22 = .ok (.ifCond .eq 7, 3) := dk_153 0 7 (dk_at dksX3_remove_1 0 rfl rfl)
theorem dX3_remove_25 : decode cX3_remove 25 = .ok (.iconst 1, 1) := dk_4 (dk_at dksX3_remove_1 3 rfl rfl)
theorem dX3_remove_26 : decode cX3_remove 26 = .ok (.goto 4, 3) := dk_167 0 4 (dk_at dksX3_remove_1 4 rfl rfl)
theorem dX3_remove_29 : decode cX3_remove 29 = .ok (.iconst 0, 1) := dk_3 (dk_at dksX3_remove_1 7 rfl rfl)
theorem dX3_remove_30 : decode cX3_remove 30 = .ok (.ldc_w 318, 3) := dk_19 1 62 (dk_at dksX3_remove_1 8 rfl rfl)
theorem dX3_remove_33 : decode cX3_remove 33 = .ok (.invokestatic 183, 3) := dk_184 0 183 (dk_at dksX3_remove_1 11 rfl rfl)
theorem dX3_remove_36 : decode cX3_remove 36 = .ok (.aload_n 0, 1) := dk_42 (dk_at dksX3_remove_1 14 rfl rfl)
theorem dX3_remove_37 : decode cX3_remove 37 = .ok (.invokevirtual 295, 3) := dk_182 1 39 (dk_at dksX3_remove_1 15 rfl rfl)
theorem dX3_remove_40 : decode cX3_remove 40 = .ok (.astore_n 3, 1) := dk_78 (dk_at dksX3_remove_1 18 rfl rfl)
theorem dX3_remove_41 : decode cX3_remove 41 = .ok (.aload_n 0, 1) := dk_42 (dk_at dksX3_remove_1 19 rfl rfl)
theorem dX3_remove_42 : decode cX3_remove 42 = .ok (.aload_n 3, 1) := dk_45 (dk_at dksX3_remove_1 20 rfl rfl)
theorem dX3_remove_43 : decode cX3_remove 43 = .ok (.iload_n 1, 1) := dk_27 (dk_at dksX3_remove_1 21 rfl rfl)
theorem dX3_remove_44 : decode cX3_remove 44 = .ok (.invokevirtual 127, 3) := dk_182 0 127 (dk_at dksX3_remove_2 0 rfl rfl)
theorem dX3_remove_47 : decode cX3_remove 47 = .ok (.istore 4, 2) := dk_54 4 (dk_at dksX3_remove_2 3 rfl rfl)
theorem dX3_remove_49 : decode cX3_remove 49 = .ok (.aload_n 3, 1) := dk_45 (dk_at dksX3_remove_2 5 rfl rfl)
theorem dX3_remove_50 : decode cX3_remove 50 = .ok (.getfield 113, 3) := dk_180 0 113 (dk_at dksX3_remove_2 6 rfl rfl)
theorem dX3_remove_53 : decode cX3_remove 53 = .ok (.iload 4, 2) := dk_21 4 (dk_at dksX3_remove_2 9 rfl rfl)
theorem dX3_remove_55 : decode cX3_remove 55 = .ok (.iaload, 1) := dk_46 (dk_at dksX3_remove_2 11 rfl rfl)
theorem dX3_remove_56 : decode cX3_remove 56 = .ok (.istore 5, 2) := dk_54 5 (dk_at dksX3_remove_2 12 rfl rfl)
theorem dX3_remove_58 : decode cX3_remove 58 = .ok (.aload_n 0, 1) := dk_42 (dk_at dksX3_remove_2 14 rfl rfl)
theorem dX3_remove_59 : decode cX3_remove 59 = .ok (.iload 5, 2) := dk_21 5 (dk_at dksX3_remove_2 15 rfl rfl)
theorem dX3_remove_61 : decode cX3_remove 61 = .ok (.invokevirtual 116, 3) := dk_182 0 116 (dk_at dksX3_remove_2 17 rfl rfl)
theorem dX3_remove_64 : decode cX3_remove 64 = .ok (.astore 6, 2) := dk_58 6 (dk_at dksX3_remove_2 20 rfl rfl)
theorem dX3_remove_66 : decode cX3_remove 66 = .ok (.aload 6, 2) := dk_25 6 (dk_at dksX3_remove_2 22 rfl rfl)
theorem dX3_remove_68 : decode cX3_remove 68 = .ok (.invokevirtual 249, 3) := dk_182 0 249 (dk_at dksX3_remove_3 0 rfl rfl)
theorem dX3_remove_71 : decode cX3_remove 71 = .ok (.iconst 1, 1) := dk_4 (dk_at dksX3_remove_3 3 rfl rfl)
theorem dX3_remove_72 : decode cX3_remove 72 = .ok (.if_icmp .le 18, 3) := dk_164 0 18 (dk_at dksX3_remove_3 4 rfl rfl)
theorem dX3_remove_75 : decode cX3_remove 75 = .ok (.aload_n 0, 1) := dk_42 (dk_at dksX3_remove_3 7 rfl rfl)
theorem dX3_remove_76 : decode cX3_remove 76 = .ok (.iload 4, 2) := dk_21 4 (dk_at dksX3_remove_3 8 rfl rfl)
theorem dX3_remove_78 : decode cX3_remove 78 = .ok (.aload 6, 2) := dk_25 6 (dk_at dksX3_remove_3 10 rfl rfl)
theorem dX3_remove_80 : decode cX3_remove 80 = .ok (.iload_n 1, 1) := dk_27 (dk_at dksX3_remove_3 12 rfl rfl)
theorem dX3_remove_81 : decode cX3_remove 81 = .ok (.invokevirtual 320, 3) := dk_182 1 64 (dk_at dksX3_remove_3 13 rfl rfl)
theorem dX3_remove_84 : decode cX3_remove 84 = .ok (.invokevirtual 308, 3) := dk_182 1 52 (dk_at dksX3_remove_3 16 rfl rfl)
theorem dX3_remove_87 : decode cX3_remove 87 = .ok (.goto 19, 3) := dk_167 0 19 (dk_at dksX3_remove_3 19 rfl rfl)
theorem dX3_remove_90 : decode cX3_remove 90 = .ok (.aload_n 0, 1) := dk_42 (dk_at dksX3_remove_3 22 rfl rfl)
theorem dX3_remove_91 : decode cX3_remove 91 = .ok (.aload_n 3, 1) := dk_45 (dk_at dksX3_remove_3 23 rfl rfl)
theorem dX3_remove_92 : decode cX3_remove 92 = .ok (.iload 4, 2) := dk_21 4 (dk_at dksX3_remove_4 0 rfl rfl)
theorem dX3_remove_94 : decode cX3_remove 94 = .ok (.invokevirtual 323, 3) := dk_182 1 67 (dk_at dksX3_remove_4 2 rfl rfl)
theorem dX3_remove_97 : decode cX3_remove 97 = .ok (.invokevirtual 245, 3) := dk_182 0 245 (dk_at dksX3_remove_4 5 rfl rfl)
theorem dX3_remove_100 : decode cX3_remove 100 = .ok (.aload_n 0, 1) := dk_42 (dk_at dksX3_remove_4 8 rfl rfl)
theorem dX3_remove_101 : decode cX3_remove 101 = .ok (.iload 5, 2) := dk_21 5 (dk_at dksX3_remove_4 9 rfl rfl)
theorem dX3_remove_103 : decode cX3_remove 103 = .ok (.invokevirtual 238, 3) := dk_182 0 238 (dk_at dksX3_remove_4 11 rfl rfl)
theorem dX3_remove_106 : decode cX3_remove 106 = .ok (.iload_n 2, 1) := dk_28 (dk_at dksX3_remove_4 14 rfl rfl)
theorem dX3_remove_107 : decode cX3_remove 107 = .ok (.ireturn, 1) := dk_172 (dk_at dksX3_remove_4 15 rfl rfl)
/-! PageGarden$Garden.remove(I)I -/
abbrev M_X3_remove (z0 n0 : Nat) (s' : gS) : gM := (RX3, cX3_remove, 7, (some FieldType.int), "remove", [], 12, z0, n0, s'.2.1, s'.2.2)
abbrev W_X3_remove (E : gE) (z0 n0 : Nat) (r : (Int32 ⊕ String)) (s' : gS) (pc : Nat) (L : List (Nat × gV)) (st : List gV) (s : gS) : Prop := gW E (M_X3_remove z0 n0 s') (gQm E (M_X3_remove z0 n0 s') (gOi r) s') pc L st s
noncomputable def f_X3_remove_106 (κ : gK) (F : Nat)  (l2 : Int32) (s : gS) : Option ((Int32 ⊕ String) × gS) :=
  some ((.inl l2), s)
set_option maxHeartbeats 4000000 in
theorem w_X3_remove_106 {E : gE} {F z0 n0 : Nat} {r : (Int32 ⊕ String)} {s' : gS}   : ∀ (l2 : Int32)  (s : gS), f_X3_remove_106 (gk E) F  l2 s = some (r, s') → W_X3_remove E z0 n0 r s' 106 [(2, vI l2)] [] s := by
  intro l2 s hB
  unfold f_X3_remove_106 at hB
  refine gw_iload_n 0 rfl dX3_remove_106 ?_
  obtain ⟨rfl, rfl⟩ := Prod.mk.inj (Option.some.inj hB)
  exact gw_iret rfl rfl rfl dX3_remove_107
noncomputable def f_X3_remove_30 (κ : gK) (F : Nat)  (l0 : Option Nat) (l1 : Int32) (l2 : Int32) (t0 : Int32) (s : gS) : Option ((Int32 ⊕ String) × gS) :=
  gB3 (f_X1_requireState κ F t0 (κ.2 32) s) fun v2 s1 =>
  gB1 (gck s1 l0 7) fun _ =>
  gB3 (f_X3_ownDirectory κ F l0  s1) fun v4 s3 =>
  gB1 (gck s3 l0 7) fun _ =>
  gB2 (f_X3_placeOf κ F l0 v4 l1 s3) fun v7 s6 =>
  gB1 (gfR s6 v4 3 0) fun v9 =>
  gB1 (gaI s6 v9 0 v7) fun v10 =>
  gB1 (gck s6 l0 7) fun _ =>
  gB2 (f_X3_leaf κ F l0 v10 s6) fun v12 s11 =>
  gB1 (gck s11 v12 2) fun _ =>
  gB2 (f_X9_size κ F v12  s11) fun v15 s14 =>
  if v15 ≤ (1 : Int32) then
    gB1 (gck s14 v4 3) fun _ =>
    gB2 (f_X5_without κ F v4 v7 s14) fun v18 s17 =>
    gB1 (gck s17 l0 7) fun _ =>
    gB2 (f_X3_setDirectory κ F l0 v18 s17) fun v21 s20 =>
    gB1 (gck s20 l0 7) fun _ =>
    gB2 (f_X3_leave κ F l0 v10 s20) fun v24 s23 =>
    f_X3_remove_106 κ F  l2 s23
  else
    gB1 (gck s14 v12 2) fun _ =>
    gB2 (f_X9_without κ F v12 l1 s14) fun v27 s26 =>
    gB1 (gck s26 l0 7) fun _ =>
    gB3 (f_X3_change κ F l0 v7 v27 s26) fun v30 s29 =>
    f_X3_remove_106 κ F  l2 s29
set_option maxHeartbeats 4000000 in
theorem w_X3_remove_30 {E : gE} {F z0 n0 : Nat} {r : (Int32 ⊕ String)} {s' : gS}   : ∀ (l0 : Option Nat) (l1 : Int32) (l2 : Int32) (t0 : Int32) (s : gS), f_X3_remove_30 (gk E) F  l0 l1 l2 t0 s = some (r, s') → W_X3_remove E z0 n0 r s' 30 [(0, vR l0), (1, vI l1), (2, vI l2)] [vI t0] s := by
  intro l0 l1 l2 t0 s hB
  unfold f_X3_remove_30 at hB
  refine gw_ldcSW (own := "PageGarden$Garden") (tx := "no such key, or no bed") (i := 32) rfl (by decide) dX3_remove_30 ?_
  rcases gB3_some hB with ⟨v2, s1, hv2, hB⟩ | ⟨Cv2, hv2, hzv2⟩
  rotate_left
  · subst hzv2
    exact gw_callSN (y := yX1_requireState) (lw_meth q2017) q108 q2015 q2016 hdS_X1_requireState (As := [vI t0, vR ((gk E).2 32)]) (rest := []) (m_X1_requireState _ _ _ _ _ hv2) (Nat.le_of_ble_eq_true rfl) (Nat.le_of_ble_eq_true rfl) rfl (Nat.le_of_ble_eq_true rfl) dX3_remove_33 (gCont_x (gx_out rfl rfl rfl))
  refine gw_callSN (y := yX1_requireState) (lw_meth q2017) q108 q2015 q2016 hdS_X1_requireState (As := [vI t0, vR ((gk E).2 32)]) (rest := []) (m_X1_requireState _ _ _ _ _ hv2) (Nat.le_of_ble_eq_true rfl) (Nat.le_of_ble_eq_true rfl) rfl (Nat.le_of_ble_eq_true rfl) dX3_remove_33 (gCont_v ?_)
  refine gw_aload_n 0 rfl dX3_remove_36 ?_
  obtain ⟨u0, hu5, hB⟩ := gB1_some hB
  rcases gB3_some hB with ⟨v4, s3, hv4, hB⟩ | ⟨Cv4, hv4, hzv4⟩
  rotate_left
  · subst hzv4
    exact gw_callV (y := yX3_ownDirectory) (lw_V q2110 q2112 qs27 q110 q2113) hdV_X3_ownDirectory gcl7 hu5 (As := []) (rest := []) (m_X3_ownDirectory _ _ _ _ hv4) (Nat.le_of_ble_eq_true rfl) (Nat.le_of_ble_eq_true rfl) rfl (Nat.le_of_ble_eq_true rfl) dX3_remove_37 (gCont_x (gx_out rfl rfl rfl))
  refine gw_callV (y := yX3_ownDirectory) (lw_V q2110 q2112 qs27 q110 q2113) hdV_X3_ownDirectory gcl7 hu5 (As := []) (rest := []) (m_X3_ownDirectory _ _ _ _ hv4) (Nat.le_of_ble_eq_true rfl) (Nat.le_of_ble_eq_true rfl) rfl (Nat.le_of_ble_eq_true rfl) dX3_remove_37 (gCont_i ?_)
  refine gw_astore_n (L' := [(3, vR v4), (0, vR l0), (1, vI l1), (2, vI l2)]) (Nat.le_of_ble_eq_true rfl) rfl dX3_remove_40 ?_
  refine gw_aload_n 1 rfl dX3_remove_41 ?_
  refine gw_aload_n 0 rfl dX3_remove_42 ?_
  refine gw_iload_n 2 rfl dX3_remove_43 ?_
  obtain ⟨u0, hu8, hB⟩ := gB1_some hB
  obtain ⟨v7, s6, hv7, hB⟩ := gB2_some hB
  refine gw_callV (y := yX3_placeOf) (lw_V q2053 q2055 qs25 q110 q2056) hdV_X3_placeOf gcl7 hu8 (As := [vR v4, vI l1]) (rest := []) (m_X3_placeOf _ _ _ _ _ _ hv7) (Nat.le_of_ble_eq_true rfl) (Nat.le_of_ble_eq_true rfl) rfl (Nat.le_of_ble_eq_true rfl) dX3_remove_44 (gCont_i ?_)
  refine gw_istore (L' := [(4, vI v7), (3, vR v4), (0, vR l0), (1, vI l1), (2, vI l2)]) (Nat.le_of_ble_eq_true rfl) rfl dX3_remove_47 ?_
  refine gw_aload_n 1 rfl dX3_remove_49 ?_
  obtain ⟨v9, hv9, hB⟩ := gB1_some hB
  refine gw_getfN (C := RX5) (T := TX5) (N := 1) (k := 0) gcl3 (by decide) in_X5 q321 (gfR_spec hv9) dX3_remove_50 ?_
  refine gw_iload 0 rfl dX3_remove_53 ?_
  obtain ⟨v10, hv10, hB⟩ := gB1_some hB
  refine gw_iaload hv10 dX3_remove_55 ?_
  refine gw_istore (L' := [(5, vI v10), (4, vI v7), (3, vR v4), (0, vR l0), (1, vI l1), (2, vI l2)]) (Nat.le_of_ble_eq_true rfl) rfl dX3_remove_56 ?_
  refine gw_aload_n 3 rfl dX3_remove_58 ?_
  refine gw_iload 0 rfl dX3_remove_59 ?_
  obtain ⟨u0, hu13, hB⟩ := gB1_some hB
  obtain ⟨v12, s11, hv12, hB⟩ := gB2_some hB
  refine gw_callV (y := yX3_leaf) (lw_V q2057 q2059 qs26 q110 q2060) hdV_X3_leaf gcl7 hu13 (As := [vI v10]) (rest := []) (m_X3_leaf _ _ _ _ _ hv12) (Nat.le_of_ble_eq_true rfl) (Nat.le_of_ble_eq_true rfl) rfl (Nat.le_of_ble_eq_true rfl) dX3_remove_61 (gCont_i ?_)
  refine gw_astore (L' := [(6, vR v12), (5, vI v10), (4, vI v7), (3, vR v4), (0, vR l0), (1, vI l1), (2, vI l2)]) (Nat.le_of_ble_eq_true rfl) rfl dX3_remove_64 ?_
  refine gw_aload 0 rfl dX3_remove_66 ?_
  obtain ⟨u0, hu16, hB⟩ := gB1_some hB
  obtain ⟨v15, s14, hv15, hB⟩ := gB2_some hB
  refine gw_callV (y := yX9_size) (lw_V q2071 q2072 q2073 q160 q2074) hdV_X9_size gcl2 hu16 (As := []) (rest := []) (m_X9_size _ _ _ _ hv15) (Nat.le_of_ble_eq_true rfl) (Nat.le_of_ble_eq_true rfl) rfl (Nat.le_of_ble_eq_true rfl) dX3_remove_68 (gCont_i ?_)
  refine gw_iconst (v := (1 : Int32)) (by decide) dX3_remove_71 ?_
  refine gw_icmp_le (tgt := 90) dX3_remove_72 (by decide) (fun hcnd => ?_) (fun hcnd => ?_)
  · rw [if_pos hcnd] at hB
    refine gw_aload_n 4 rfl dX3_remove_90 ?_
    refine gw_aload_n 3 rfl dX3_remove_91 ?_
    refine gw_iload 2 rfl dX3_remove_92 ?_
    obtain ⟨u0, hu19, hB⟩ := gB1_some hB
    obtain ⟨v18, s17, hv18, hB⟩ := gB2_some hB
    refine gw_callV (y := yX5_without) (lw_V q2233 q2234 q2235 q117 q2236) hdV_X5_without gcl3 hu19 (As := [vI v7]) (rest := [vR l0]) (m_X5_without _ _ _ _ _ hv18) (Nat.le_of_ble_eq_true rfl) (Nat.le_of_ble_eq_true rfl) rfl (Nat.le_of_ble_eq_true rfl) dX3_remove_94 (gCont_i ?_)
    obtain ⟨u0, hu22, hB⟩ := gB1_some hB
    obtain ⟨v21, s20, hv21, hB⟩ := gB2_some hB
    refine gw_callV (y := yX3_setDirectory) (lw_V q2188 q2190 qs31 q110 q2191) hdV_X3_setDirectory gcl7 hu22 (As := [vR v18]) (rest := []) (m_X3_setDirectory _ _ _ _ _ hv21) (Nat.le_of_ble_eq_true rfl) (Nat.le_of_ble_eq_true rfl) rfl (Nat.le_of_ble_eq_true rfl) dX3_remove_97 (gCont_v ?_)
    refine gw_aload_n 4 rfl dX3_remove_100 ?_
    refine gw_iload 1 rfl dX3_remove_101 ?_
    obtain ⟨u0, hu25, hB⟩ := gB1_some hB
    obtain ⟨v24, s23, hv24, hB⟩ := gB2_some hB
    refine gw_callV (y := yX3_leave) (lw_V q2123 q2125 qs29 q110 q2126) hdV_X3_leave gcl7 hu25 (As := [vI v10]) (rest := []) (m_X3_leave _ _ _ _ _ hv24) (Nat.le_of_ble_eq_true rfl) (Nat.le_of_ble_eq_true rfl) rfl (Nat.le_of_ble_eq_true rfl) dX3_remove_103 (gCont_v ?_)
    exact gw_sub [6] rfl (w_X3_remove_106  _ _ hB)
  · rw [if_neg hcnd] at hB
    refine gw_aload_n 4 rfl dX3_remove_75 ?_
    refine gw_iload 2 rfl dX3_remove_76 ?_
    refine gw_aload 0 rfl dX3_remove_78 ?_
    refine gw_iload_n 5 rfl dX3_remove_80 ?_
    obtain ⟨u0, hu28, hB⟩ := gB1_some hB
    obtain ⟨v27, s26, hv27, hB⟩ := gB2_some hB
    refine gw_callV (y := yX9_without) (lw_V q2229 q2230 q2231 q160 q2232) hdV_X9_without gcl2 hu28 (As := [vI l1]) (rest := [vI v7, vR l0]) (m_X9_without _ _ _ _ _ hv27) (Nat.le_of_ble_eq_true rfl) (Nat.le_of_ble_eq_true rfl) rfl (Nat.le_of_ble_eq_true rfl) dX3_remove_81 (gCont_i ?_)
    obtain ⟨u0, hu31, hB⟩ := gB1_some hB
    rcases gB3_some hB with ⟨v30, s29, hv30, hB⟩ | ⟨Cv30, hv30, hzv30⟩
    rotate_left
    · subst hzv30
      exact gw_callV (y := yX3_change) (lw_V q2202 q2204 qs32 q110 q2205) hdV_X3_change gcl7 hu31 (As := [vI v7, vR v27]) (rest := []) (m_X3_change _ _ _ _ _ _ hv30) (Nat.le_of_ble_eq_true rfl) (Nat.le_of_ble_eq_true rfl) rfl (Nat.le_of_ble_eq_true rfl) dX3_remove_84 (gCont_x (gx_out rfl rfl rfl))
    refine gw_callV (y := yX3_change) (lw_V q2202 q2204 qs32 q110 q2205) hdV_X3_change gcl7 hu31 (As := [vI v7, vR v27]) (rest := []) (m_X3_change _ _ _ _ _ _ hv30) (Nat.le_of_ble_eq_true rfl) (Nat.le_of_ble_eq_true rfl) rfl (Nat.le_of_ble_eq_true rfl) dX3_remove_84 (gCont_v ?_)
    refine gw_goto (tgt := 106) dX3_remove_87 (by decide) ?_
    exact gw_sub [6] rfl (w_X3_remove_106  _ _ hB)
noncomputable def f_X3_remove_29 (κ : gK) (F : Nat)  (l0 : Option Nat) (l1 : Int32) (l2 : Int32) (s : gS) : Option ((Int32 ⊕ String) × gS) :=
  f_X3_remove_30 κ F  l0 l1 l2 (0 : Int32) s
set_option maxHeartbeats 4000000 in
theorem w_X3_remove_29 {E : gE} {F z0 n0 : Nat} {r : (Int32 ⊕ String)} {s' : gS}   : ∀ (l0 : Option Nat) (l1 : Int32) (l2 : Int32)  (s : gS), f_X3_remove_29 (gk E) F  l0 l1 l2 s = some (r, s') → W_X3_remove E z0 n0 r s' 29 [(0, vR l0), (1, vI l1), (2, vI l2)] [] s := by
  intro l0 l1 l2 s hB
  unfold f_X3_remove_29 at hB
  refine gw_iconst (v := (0 : Int32)) (by decide) dX3_remove_29 ?_
  exact gw_sub [0, 1, 2] rfl (w_X3_remove_30  _ _ _ _ _ hB)
noncomputable def f_X3_remove_0 (κ : gK) (F : Nat)  (l0 : Option Nat) (l1 : Int32) (s : gS) : Option ((Int32 ⊕ String) × gS) :=
  gB3 (f_X3_requireKey κ F l1 s) fun v2 s1 =>
  gB1 (gck s1 l0 7) fun _ =>
  gB3 (f_X3_drafted κ F l0 l1 s1) fun v4 s3 =>
  if v4 = (-1000 : Int32) then
    f_X3_remove_29 κ F  l0 l1 v4 s3
  else
    gB1 (gck s3 l0 7) fun _ =>
    gB2 (f_X3_canRemove κ F l0 l1 s3) fun v7 s6 =>
    if v7 = 0 then
      f_X3_remove_29 κ F  l0 l1 v4 s6
    else
      f_X3_remove_30 κ F  l0 l1 v4 (1 : Int32) s6
set_option maxHeartbeats 4000000 in
theorem w_X3_remove_0 {E : gE} {F z0 n0 : Nat} {r : (Int32 ⊕ String)} {s' : gS}   : ∀ (l0 : Option Nat) (l1 : Int32)  (s : gS), f_X3_remove_0 (gk E) F  l0 l1 s = some (r, s') → W_X3_remove E z0 n0 r s' 0 [(0, vR l0), (1, vI l1)] [] s := by
  intro l0 l1 s hB
  unfold f_X3_remove_0 at hB
  refine gw_iload_n 1 rfl dX3_remove_0 ?_
  rcases gB3_some hB with ⟨v2, s1, hv2, hB⟩ | ⟨Cv2, hv2, hzv2⟩
  rotate_left
  · subst hzv2
    exact gw_callS (y := yX3_requireKey) (lw_S q1992 q1993 q110 q1994) hdS_X3_requireKey (As := [vI l1]) (rest := []) (m_X3_requireKey _ _ _ _ hv2) (Nat.le_of_ble_eq_true rfl) (Nat.le_of_ble_eq_true rfl) rfl (Nat.le_of_ble_eq_true rfl) dX3_remove_1 (gCont_x (gx_out rfl rfl rfl))
  refine gw_callS (y := yX3_requireKey) (lw_S q1992 q1993 q110 q1994) hdS_X3_requireKey (As := [vI l1]) (rest := []) (m_X3_requireKey _ _ _ _ hv2) (Nat.le_of_ble_eq_true rfl) (Nat.le_of_ble_eq_true rfl) rfl (Nat.le_of_ble_eq_true rfl) dX3_remove_1 (gCont_v ?_)
  refine gw_aload_n 0 rfl dX3_remove_4 ?_
  refine gw_iload_n 1 rfl dX3_remove_5 ?_
  obtain ⟨u0, hu5, hB⟩ := gB1_some hB
  rcases gB3_some hB with ⟨v4, s3, hv4, hB⟩ | ⟨Cv4, hv4, hzv4⟩
  rotate_left
  · subst hzv4
    exact gw_callV (y := yX3_drafted) (lw_V q2101 q2102 q2103 q110 q2104) hdV_X3_drafted gcl7 hu5 (As := [vI l1]) (rest := []) (m_X3_drafted _ _ _ _ _ hv4) (Nat.le_of_ble_eq_true rfl) (Nat.le_of_ble_eq_true rfl) rfl (Nat.le_of_ble_eq_true rfl) dX3_remove_6 (gCont_x (gx_out rfl rfl rfl))
  refine gw_callV (y := yX3_drafted) (lw_V q2101 q2102 q2103 q110 q2104) hdV_X3_drafted gcl7 hu5 (As := [vI l1]) (rest := []) (m_X3_drafted _ _ _ _ _ hv4) (Nat.le_of_ble_eq_true rfl) (Nat.le_of_ble_eq_true rfl) rfl (Nat.le_of_ble_eq_true rfl) dX3_remove_6 (gCont_i ?_)
  refine gw_istore_n (L' := [(2, vI v4), (0, vR l0), (1, vI l1)]) (Nat.le_of_ble_eq_true rfl) rfl dX3_remove_9 ?_
  refine gw_iload_n 0 rfl dX3_remove_10 ?_
  refine gw_sipush (v := (-1000 : Int32)) (by decide) dX3_remove_11 ?_
  refine gw_icmp_eq (tgt := 29) dX3_remove_14 (by decide) (fun hcnd => ?_) (fun hcnd => ?_)
  · rw [if_pos hcnd] at hB
    exact gw_sub [1, 2, 0] rfl (w_X3_remove_29  _ _ _ _ hB)
  · rw [if_neg hcnd] at hB
    refine gw_aload_n 1 rfl dX3_remove_17 ?_
    refine gw_iload_n 2 rfl dX3_remove_18 ?_
    obtain ⟨u0, hu8, hB⟩ := gB1_some hB
    obtain ⟨v7, s6, hv7, hB⟩ := gB2_some hB
    refine gw_callV (y := yX3_canRemove) (lw_V q2224 q2226 qs33 q110 q2227) hdV_X3_canRemove gcl7 hu8 (As := [vI l1]) (rest := []) (m_X3_canRemove _ _ _ _ _ hv7) (Nat.le_of_ble_eq_true rfl) (Nat.le_of_ble_eq_true rfl) rfl (Nat.le_of_ble_eq_true rfl) dX3_remove_19 (gCont_i ?_)
    refine gw_if_eq (tgt := 29) dX3_remove_22 (by decide) (fun hcnd => ?_) (fun hcnd => ?_)
    · rw [if_pos hcnd] at hB
      exact gw_sub [1, 2, 0] rfl (w_X3_remove_29  _ _ _ _ hB)
    · rw [if_neg hcnd] at hB
      refine gw_iconst (v := (1 : Int32)) (by decide) dX3_remove_25 ?_
      refine gw_goto (tgt := 30) dX3_remove_26 (by decide) ?_
      exact gw_sub [1, 2, 0] rfl (w_X3_remove_30  _ _ _ _ _ hB)
noncomputable def f_X3_remove (κ : gK) (F : Nat) (a0 : Option Nat) (a1 : Int32) (s : gS) : Option ((Int32 ⊕ String) × gS) := f_X3_remove_0 κ F a0 a1 s
theorem m_X3_remove {E : gE} {F : Nat} (a0 : Option Nat) (a1 : Int32) (s : gS) (r : (Int32 ⊕ String)) (s' : gS) (h : f_X3_remove (gk E) F a0 a1 s = some (r, s')) : gCT E 12 yX3_remove (ws_ yX3_remove cX3_remove 7 (some FieldType.int)) [vR a0, vI a1] s (gOi r) s' := by
  refine gCT_of2 (fun h => absurd h (by decide)) (plainFor_of_name (by decide)) (Nat.le_of_ble_eq_true rfl) ?_
  exact gw_sub [0, 1] rfl (w_X3_remove_0 _ _ _ h)
def dkwX3_rootValue_3 : List UInt8 := [167, 0, 20, 3, 167, 0, 16, 27, 42, 182, 0, 152, 160, 0, 7, 4, 167, 0, 4, 3, 172]
abbrev dktX3_rootValue_3 : List UInt8 := dkwX3_rootValue_3 ++ []
def dkwX3_rootValue_2 : List UInt8 := [45, 180, 0, 149, 167, 0, 38, 45, 180, 0, 223, 167, 0, 31, 45, 180, 0, 145, 153, 0, 7, 4]
abbrev dktX3_rootValue_2 : List UInt8 := dkwX3_rootValue_2 ++ dktX3_rootValue_3
def dkwX3_rootValue_1 : List UInt8 := [170, 0, 0, 0, 0, 0, 0, 57, 0, 0, 0, 0, 0, 0, 0, 2, 0, 0, 0, 28, 0, 0, 0, 35, 0, 0, 0, 42]
abbrev dktX3_rootValue_1 : List UInt8 := dkwX3_rootValue_1 ++ dktX3_rootValue_2
def dkwX3_rootValue_0 : List UInt8 := [42, 180, 0, 38, 27, 50, 78, 28]
abbrev dktX3_rootValue_0 : List UInt8 := dkwX3_rootValue_0 ++ dktX3_rootValue_1
theorem dksX3_rootValue_0 : cX3_rootValue.data.toList.drop 0 = dktX3_rootValue_0 := by decide +kernel
theorem dksX3_rootValue_1 : cX3_rootValue.data.toList.drop 8 = dktX3_rootValue_1 := dk_seg dksX3_rootValue_0 8 rfl rfl
theorem dksX3_rootValue_2 : cX3_rootValue.data.toList.drop 36 = dktX3_rootValue_2 := dk_seg dksX3_rootValue_1 28 rfl rfl
theorem dksX3_rootValue_3 : cX3_rootValue.data.toList.drop 58 = dktX3_rootValue_3 := dk_seg dksX3_rootValue_2 22 rfl rfl
theorem dX3_rootValue_0 : decode cX3_rootValue 0 = .ok (.aload_n 0, 1) := dk_42 (dk_at dksX3_rootValue_0 0 rfl rfl)
theorem dX3_rootValue_1 : decode cX3_rootValue 1 = .ok (.getfield 38, 3) := dk_180 0 38 (dk_at dksX3_rootValue_0 1 rfl rfl)
theorem dX3_rootValue_4 : decode cX3_rootValue 4 = .ok (.iload_n 1, 1) := dk_27 (dk_at dksX3_rootValue_0 4 rfl rfl)
theorem dX3_rootValue_5 : decode cX3_rootValue 5 = .ok (.aaload, 1) := dk_50 (dk_at dksX3_rootValue_0 5 rfl rfl)
theorem dX3_rootValue_6 : decode cX3_rootValue 6 = .ok (.astore_n 3, 1) := dk_78 (dk_at dksX3_rootValue_0 6 rfl rfl)
theorem dX3_rootValue_7 : decode cX3_rootValue 7 = .ok (.iload_n 2, 1) := dk_28 (dk_at dksX3_rootValue_0 7 rfl rfl)
theorem dX3_rootValue_8 : decode cX3_rootValue 8 = .ok (.tableswitch 57 0 2 #[28, 35, 42], 28) := by decide +kernel
theorem dX3_rootValue_36 : decode cX3_rootValue 36 = .ok (.aload_n 3, 1) := dk_45 (dk_at dksX3_rootValue_2 0 rfl rfl)
theorem dX3_rootValue_37 : decode cX3_rootValue 37 = .ok (.getfield 149, 3) := dk_180 0 149 (dk_at dksX3_rootValue_2 1 rfl rfl)
theorem dX3_rootValue_40 : decode cX3_rootValue 40 = .ok (.goto 38, 3) := dk_167 0 38 (dk_at dksX3_rootValue_2 4 rfl rfl)
theorem dX3_rootValue_43 : decode cX3_rootValue 43 = .ok (.aload_n 3, 1) := dk_45 (dk_at dksX3_rootValue_2 7 rfl rfl)
theorem dX3_rootValue_44 : decode cX3_rootValue 44 = .ok (.getfield 223, 3) := dk_180 0 223 (dk_at dksX3_rootValue_2 8 rfl rfl)
theorem dX3_rootValue_47 : decode cX3_rootValue 47 = .ok (.goto 31, 3) := dk_167 0 31 (dk_at dksX3_rootValue_2 11 rfl rfl)
theorem dX3_rootValue_50 : decode cX3_rootValue 50 = .ok (.aload_n 3, 1) := dk_45 (dk_at dksX3_rootValue_2 14 rfl rfl)
theorem dX3_rootValue_51 : decode cX3_rootValue 51 = .ok (.getfield 145, 3) := dk_180 0 145 (dk_at dksX3_rootValue_2 15 rfl rfl)
theorem dX3_rootValue_54 : decode cX3_rootValue 54 = .ok (.ifCond .eq 7, 3) := dk_153 0 7 (dk_at dksX3_rootValue_2 18 rfl rfl)
theorem dX3_rootValue_57 : decode cX3_rootValue 57 = .ok (.iconst 1, 1) := dk_4 (dk_at dksX3_rootValue_2 21 rfl rfl)
theorem dX3_rootValue_58 : decode cX3_rootValue 58 = .ok (.goto 20, 3) := dk_167 0 20 (dk_at dksX3_rootValue_3 0 rfl rfl)
theorem dX3_rootValue_61 : decode cX3_rootValue 61 = .ok (.iconst 0, 1) := dk_3 (dk_at dksX3_rootValue_3 3 rfl rfl)
theorem dX3_rootValue_62 : decode cX3_rootValue 62 = .ok (.goto 16, 3) := dk_167 0 16 (dk_at dksX3_rootValue_3 4 rfl rfl)
theorem dX3_rootValue_65 : decode cX3_rootValue 65 = .ok (.iload_n 1, 1) := dk_27 (dk_at dksX3_rootValue_3 7 rfl rfl)
theorem dX3_rootValue_66 : decode cX3_rootValue 66 = .ok (.aload_n 0, 1) := dk_42 (dk_at dksX3_rootValue_3 8 rfl rfl)
theorem dX3_rootValue_67 : decode cX3_rootValue 67 = .ok (.invokevirtual 152, 3) := dk_182 0 152 (dk_at dksX3_rootValue_3 9 rfl rfl)
theorem dX3_rootValue_70 : decode cX3_rootValue 70 = .ok (.if_icmp .ne 7, 3) := dk_160 0 7 (dk_at dksX3_rootValue_3 12 rfl rfl)
theorem dX3_rootValue_73 : decode cX3_rootValue 73 = .ok (.iconst 1, 1) := dk_4 (dk_at dksX3_rootValue_3 15 rfl rfl)
theorem dX3_rootValue_74 : decode cX3_rootValue 74 = .ok (.goto 4, 3) := dk_167 0 4 (dk_at dksX3_rootValue_3 16 rfl rfl)
theorem dX3_rootValue_77 : decode cX3_rootValue 77 = .ok (.iconst 0, 1) := dk_3 (dk_at dksX3_rootValue_3 19 rfl rfl)
theorem dX3_rootValue_78 : decode cX3_rootValue 78 = .ok (.ireturn, 1) := dk_172 (dk_at dksX3_rootValue_3 20 rfl rfl)
/-! PageGarden$Garden.rootValue(II)I -/
abbrev M_X3_rootValue (z0 n0 : Nat) (s' : gS) : gM := (RX3, cX3_rootValue, 4, (some FieldType.int), "rootValue", [], 2, z0, n0, s'.2.1, s'.2.2)
abbrev W_X3_rootValue (E : gE) (z0 n0 : Nat) (r : Int32) (s' : gS) (pc : Nat) (L : List (Nat × gV)) (st : List gV) (s : gS) : Prop := gW E (M_X3_rootValue z0 n0 s') (gQm E (M_X3_rootValue z0 n0 s') (.inl (some (vI r))) s') pc L st s
noncomputable def f_X3_rootValue_78 (κ : gK) (F : Nat)  (t0 : Int32) (s : gS) : Option (Int32 × gS) :=
  some (t0, s)
set_option maxHeartbeats 4000000 in
theorem w_X3_rootValue_78 {E : gE} {F z0 n0 : Nat} {r : Int32} {s' : gS}   : ∀  (t0 : Int32) (s : gS), f_X3_rootValue_78 (gk E) F  t0 s = some (r, s') → W_X3_rootValue E z0 n0 r s' 78 [] [vI t0] s := by
  intro t0 s hB
  unfold f_X3_rootValue_78 at hB
  obtain ⟨rfl, rfl⟩ := Prod.mk.inj (Option.some.inj hB)
  exact gw_iret rfl rfl rfl dX3_rootValue_78
noncomputable def f_X3_rootValue_0 (κ : gK) (F : Nat)  (l0 : Option Nat) (l1 : Int32) (l2 : Int32) (s : gS) : Option (Int32 × gS) :=
  gB1 (gfR s l0 7 4) fun v1 =>
  gB1 (gaR s v1 l1) fun v2 =>
  if l2 = (0 : Int32) then
    gB1 (gfI s v2 4 0) fun v3 =>
    f_X3_rootValue_78 κ F  v3 s
  else
  if l2 = (1 : Int32) then
    gB1 (gfI s v2 4 1) fun v4 =>
    f_X3_rootValue_78 κ F  v4 s
  else
  if l2 = (2 : Int32) then
    gB1 (gfI s v2 4 2) fun v5 =>
    if v5 = 0 then
      f_X3_rootValue_78 κ F  (0 : Int32) s
    else
      f_X3_rootValue_78 κ F  (1 : Int32) s
  else
  gB1 (gck s l0 7) fun _ =>
  gB2 (f_X3_current κ F l0  s) fun v7 s6 =>
  if l1 = v7 then
    f_X3_rootValue_78 κ F  (1 : Int32) s6
  else
    f_X3_rootValue_78 κ F  (0 : Int32) s6
set_option maxHeartbeats 4000000 in
theorem w_X3_rootValue_0 {E : gE} {F z0 n0 : Nat} {r : Int32} {s' : gS}   : ∀ (l0 : Option Nat) (l1 : Int32) (l2 : Int32)  (s : gS), f_X3_rootValue_0 (gk E) F  l0 l1 l2 s = some (r, s') → W_X3_rootValue E z0 n0 r s' 0 [(0, vR l0), (1, vI l1), (2, vI l2)] [] s := by
  intro l0 l1 l2 s hB
  unfold f_X3_rootValue_0 at hB
  refine gw_aload_n 0 rfl dX3_rootValue_0 ?_
  obtain ⟨v1, hv1, hB⟩ := gB1_some hB
  refine gw_getf (C := RX3) (T := TX3) (N := 9) (k := 4) gcl7 (by decide) in_X3 q286 (gfR_spec hv1) dX3_rootValue_1 ?_
  refine gw_iload_n 1 rfl dX3_rootValue_4 ?_
  obtain ⟨v2, hv2, hB⟩ := gB1_some hB
  refine gw_aaload hv2 dX3_rootValue_5 ?_
  refine gw_astore_n (L' := [(3, vR v2), (0, vR l0), (1, vI l1), (2, vI l2)]) (Nat.le_of_ble_eq_true rfl) rfl dX3_rootValue_6 ?_
  refine gw_iload_n 3 rfl dX3_rootValue_7 ?_
  by_cases hs0 : l2 = (0 : Int32)
  · rw [if_pos hs0] at hB
    refine gw_tableIn (off := 28) (tgt := 36) (by rw [hs0]; decide) (by rw [hs0]; decide) (by rw [hs0]; rfl) dX3_rootValue_8 (by decide) ?_
    refine gw_aload_n 0 rfl dX3_rootValue_36 ?_
    obtain ⟨v3, hv3, hB⟩ := gB1_some hB
    refine gw_getfN (C := RX4) (T := TX4) (N := 3) (k := 0) gcl4 (by decide) in_X4 q199 (gfI_spec hv3) dX3_rootValue_37 ?_
    refine gw_goto (tgt := 78) dX3_rootValue_40 (by decide) ?_
    exact gw_sub [] rfl (w_X3_rootValue_78  _ _ hB)
  rw [if_neg hs0] at hB
  by_cases hs1 : l2 = (1 : Int32)
  · rw [if_pos hs1] at hB
    refine gw_tableIn (off := 35) (tgt := 43) (by rw [hs1]; decide) (by rw [hs1]; decide) (by rw [hs1]; rfl) dX3_rootValue_8 (by decide) ?_
    refine gw_aload_n 0 rfl dX3_rootValue_43 ?_
    obtain ⟨v4, hv4, hB⟩ := gB1_some hB
    refine gw_getfN (C := RX4) (T := TX4) (N := 3) (k := 1) gcl4 (by decide) in_X4 q201 (gfI_spec hv4) dX3_rootValue_44 ?_
    refine gw_goto (tgt := 78) dX3_rootValue_47 (by decide) ?_
    exact gw_sub [] rfl (w_X3_rootValue_78  _ _ hB)
  rw [if_neg hs1] at hB
  by_cases hs2 : l2 = (2 : Int32)
  · rw [if_pos hs2] at hB
    refine gw_tableIn (off := 42) (tgt := 50) (by rw [hs2]; decide) (by rw [hs2]; decide) (by rw [hs2]; rfl) dX3_rootValue_8 (by decide) ?_
    refine gw_aload_n 0 rfl dX3_rootValue_50 ?_
    obtain ⟨v5, hv5, hB⟩ := gB1_some hB
    refine gw_getfN (C := RX4) (T := TX4) (N := 3) (k := 2) gcl4 (by decide) in_X4 q203 (gfI_spec hv5) dX3_rootValue_51 ?_
    refine gw_if_eq (tgt := 61) dX3_rootValue_54 (by decide) (fun hcnd => ?_) (fun hcnd => ?_)
    · rw [if_pos hcnd] at hB
      refine gw_iconst (v := (0 : Int32)) (by decide) dX3_rootValue_61 ?_
      refine gw_goto (tgt := 78) dX3_rootValue_62 (by decide) ?_
      exact gw_sub [] rfl (w_X3_rootValue_78  _ _ hB)
    · rw [if_neg hcnd] at hB
      refine gw_iconst (v := (1 : Int32)) (by decide) dX3_rootValue_57 ?_
      refine gw_goto (tgt := 78) dX3_rootValue_58 (by decide) ?_
      exact gw_sub [] rfl (w_X3_rootValue_78  _ _ hB)
  rw [if_neg hs2] at hB
  have ht0 : l2.toInt ≠ 0 := fun e => hs0 (Int32.toInt_inj.mp (e.trans (by decide)))
  have ht1 : l2.toInt ≠ 1 := fun e => hs1 (Int32.toInt_inj.mp (e.trans (by decide)))
  have ht2 : l2.toInt ≠ 2 := fun e => hs2 (Int32.toInt_inj.mp (e.trans (by decide)))
  refine gw_tableOut (tgt := 65) (by omega) dX3_rootValue_8 (by decide) ?_
  refine gw_iload_n 2 rfl dX3_rootValue_65 ?_
  refine gw_aload_n 1 rfl dX3_rootValue_66 ?_
  obtain ⟨u0, hu8, hB⟩ := gB1_some hB
  obtain ⟨v7, s6, hv7, hB⟩ := gB2_some hB
  refine gw_callV (y := yX3_current) (lw_V q1306 q1307 q1308 q110 q1309) hdV_X3_current gcl7 hu8 (As := []) (rest := [vI l1]) (m_X3_current _ _ _ _ hv7) (Nat.le_of_ble_eq_true rfl) (Nat.le_of_ble_eq_true rfl) rfl (Nat.le_of_ble_eq_true rfl) dX3_rootValue_67 (gCont_i ?_)
  refine gw_icmp_ne (tgt := 77) dX3_rootValue_70 (by decide) (fun hcnd => ?_) (fun hcnd => ?_)
  · rw [if_neg hcnd] at hB
    refine gw_iconst (v := (0 : Int32)) (by decide) dX3_rootValue_77 ?_
    exact gw_sub [] rfl (w_X3_rootValue_78  _ _ hB)
  · rw [if_pos hcnd] at hB
    refine gw_iconst (v := (1 : Int32)) (by decide) dX3_rootValue_73 ?_
    refine gw_goto (tgt := 78) dX3_rootValue_74 (by decide) ?_
    exact gw_sub [] rfl (w_X3_rootValue_78  _ _ hB)
noncomputable def f_X3_rootValue (κ : gK) (F : Nat) (a0 : Option Nat) (a1 : Int32) (a2 : Int32) (s : gS) : Option (Int32 × gS) := f_X3_rootValue_0 κ F a0 a1 a2 s
theorem m_X3_rootValue {E : gE} {F : Nat} (a0 : Option Nat) (a1 : Int32) (a2 : Int32) (s : gS) (r : Int32) (s' : gS) (h : f_X3_rootValue (gk E) F a0 a1 a2 s = some (r, s')) : gCT E 2 yX3_rootValue (ws_ yX3_rootValue cX3_rootValue 4 (some FieldType.int)) [vR a0, vI a1, vI a2] s (.inl (some (vI r))) s' := by
  refine gCT_of2 (fun h => absurd h (by decide)) (plainFor_of_name (by decide)) (Nat.le_of_ble_eq_true rfl) ?_
  exact gw_sub [0, 1, 2] rfl (w_X3_rootValue_0 _ _ _ _ h)
def dkwX3_sumOfValues_3 : List UInt8 := [21, 9, 96, 60, 132, 8, 1, 167, 255, 234, 132, 4, 1, 167, 255, 197, 27, 172]
abbrev dktX3_sumOfValues_3 : List UInt8 := dkwX3_sumOfValues_3 ++ []
def dkwX3_sumOfValues_2 : List UInt8 := [25, 6, 190, 54, 7, 3, 54, 8, 21, 8, 21, 7, 162, 0, 21, 25, 6, 21, 8, 46, 54, 9, 27]
abbrev dktX3_sumOfValues_2 : List UInt8 := dkwX3_sumOfValues_2 ++ dktX3_sumOfValues_3
def dkwX3_sumOfValues_1 : List UInt8 := [21, 4, 29, 162, 0, 59, 44, 21, 4, 46, 54, 5, 42, 21, 5, 182, 0, 116, 180, 0, 135, 58, 6]
abbrev dktX3_sumOfValues_1 : List UInt8 := dkwX3_sumOfValues_1 ++ dktX3_sumOfValues_2
def dkwX3_sumOfValues_0 : List UInt8 := [3, 60, 42, 42, 182, 0, 155, 180, 0, 223, 182, 0, 123, 180, 0, 113, 77, 44, 190, 62, 3, 54, 4]
abbrev dktX3_sumOfValues_0 : List UInt8 := dkwX3_sumOfValues_0 ++ dktX3_sumOfValues_1
theorem dksX3_sumOfValues_0 : cX3_sumOfValues.data.toList.drop 0 = dktX3_sumOfValues_0 := by decide +kernel
theorem dksX3_sumOfValues_1 : cX3_sumOfValues.data.toList.drop 23 = dktX3_sumOfValues_1 := dk_seg dksX3_sumOfValues_0 23 rfl rfl
theorem dksX3_sumOfValues_2 : cX3_sumOfValues.data.toList.drop 46 = dktX3_sumOfValues_2 := dk_seg dksX3_sumOfValues_1 23 rfl rfl
theorem dksX3_sumOfValues_3 : cX3_sumOfValues.data.toList.drop 69 = dktX3_sumOfValues_3 := dk_seg dksX3_sumOfValues_2 23 rfl rfl
theorem dX3_sumOfValues_0 : decode cX3_sumOfValues 0 = .ok (.iconst 0, 1) := dk_3 (dk_at dksX3_sumOfValues_0 0 rfl rfl)
theorem dX3_sumOfValues_1 : decode cX3_sumOfValues 1 = .ok (.istore_n 1, 1) := dk_60 (dk_at dksX3_sumOfValues_0 1 rfl rfl)
theorem dX3_sumOfValues_2 : decode cX3_sumOfValues 2 = .ok (.aload_n 0, 1) := dk_42 (dk_at dksX3_sumOfValues_0 2 rfl rfl)
theorem dX3_sumOfValues_3 : decode cX3_sumOfValues 3 = .ok (.aload_n 0, 1) := dk_42 (dk_at dksX3_sumOfValues_0 3 rfl rfl)
theorem dX3_sumOfValues_4 : decode cX3_sumOfValues 4 = .ok (.invokevirtual 155, 3) := dk_182 0 155 (dk_at dksX3_sumOfValues_0 4 rfl rfl)
theorem dX3_sumOfValues_7 : decode cX3_sumOfValues 7 = .ok (.getfield 223, 3) := dk_180 0 223 (dk_at dksX3_sumOfValues_0 7 rfl rfl)
theorem dX3_sumOfValues_10 : decode cX3_sumOfValues 10 = .ok (.invokevirtual 123, 3) := dk_182 0 123 (dk_at dksX3_sumOfValues_0 10 rfl rfl)
theorem dX3_sumOfValues_13 : decode cX3_sumOfValues 13 = .ok (.getfield 113, 3) := dk_180 0 113 (dk_at dksX3_sumOfValues_0 13 rfl rfl)
theorem dX3_sumOfValues_16 : decode cX3_sumOfValues 16 = .ok (.astore_n 2, 1) := dk_77 (dk_at dksX3_sumOfValues_0 16 rfl rfl)
theorem dX3_sumOfValues_17 : decode cX3_sumOfValues 17 = .ok (.aload_n 2, 1) := dk_44 (dk_at dksX3_sumOfValues_0 17 rfl rfl)
theorem dX3_sumOfValues_18 : decode cX3_sumOfValues 18 = .ok (.arraylength, 1) := dk_190 (dk_at dksX3_sumOfValues_0 18 rfl rfl)
theorem dX3_sumOfValues_19 : decode cX3_sumOfValues 19 = .ok (.istore_n 3, 1) := dk_62 (dk_at dksX3_sumOfValues_0 19 rfl rfl)
theorem dX3_sumOfValues_20 : decode cX3_sumOfValues 20 = .ok (.iconst 0, 1) := dk_3 (dk_at dksX3_sumOfValues_0 20 rfl rfl)
theorem dX3_sumOfValues_21 : decode cX3_sumOfValues 21 = .ok (.istore 4, 2) := dk_54 4 (dk_at dksX3_sumOfValues_0 21 rfl rfl)
theorem dX3_sumOfValues_23 : decode cX3_sumOfValues 23 = .ok (.iload 4, 2) := dk_21 4 (dk_at dksX3_sumOfValues_1 0 rfl rfl)
theorem dX3_sumOfValues_25 : decode cX3_sumOfValues 25 = .ok (.iload_n 3, 1) := dk_29 (dk_at dksX3_sumOfValues_1 2 rfl rfl)
theorem dX3_sumOfValues_26 : decode cX3_sumOfValues 26 = .ok (.if_icmp .ge 59, 3) := dk_162 0 59 (dk_at dksX3_sumOfValues_1 3 rfl rfl)
theorem dX3_sumOfValues_29 : decode cX3_sumOfValues 29 = .ok (.aload_n 2, 1) := dk_44 (dk_at dksX3_sumOfValues_1 6 rfl rfl)
theorem dX3_sumOfValues_30 : decode cX3_sumOfValues 30 = .ok (.iload 4, 2) := dk_21 4 (dk_at dksX3_sumOfValues_1 7 rfl rfl)
theorem dX3_sumOfValues_32 : decode cX3_sumOfValues 32 = .ok (.iaload, 1) := dk_46 (dk_at dksX3_sumOfValues_1 9 rfl rfl)
theorem dX3_sumOfValues_33 : decode cX3_sumOfValues 33 = .ok (.istore 5, 2) := dk_54 5 (dk_at dksX3_sumOfValues_1 10 rfl rfl)
theorem dX3_sumOfValues_35 : decode cX3_sumOfValues 35 = .ok (.aload_n 0, 1) := dk_42 (dk_at dksX3_sumOfValues_1 12 rfl rfl)
theorem dX3_sumOfValues_36 : decode cX3_sumOfValues 36 = .ok (.iload 5, 2) := dk_21 5 (dk_at dksX3_sumOfValues_1 13 rfl rfl)
theorem dX3_sumOfValues_38 : decode cX3_sumOfValues 38 = .ok (.invokevirtual 116, 3) := dk_182 0 116 (dk_at dksX3_sumOfValues_1 15 rfl rfl)
theorem dX3_sumOfValues_41 : decode cX3_sumOfValues 41 = .ok (.getfield 135, 3) := dk_180 0 135 (dk_at dksX3_sumOfValues_1 18 rfl rfl)
theorem dX3_sumOfValues_44 : decode cX3_sumOfValues 44 = .ok (.astore 6, 2) := dk_58 6 (dk_at dksX3_sumOfValues_1 21 rfl rfl)
theorem dX3_sumOfValues_46 : decode cX3_sumOfValues 46 = .ok (.aload 6, 2) := dk_25 6 (dk_at dksX3_sumOfValues_2 0 rfl rfl)
theorem dX3_sumOfValues_48 : decode cX3_sumOfValues 48 = .ok (.arraylength, 1) := dk_190 (dk_at dksX3_sumOfValues_2 2 rfl rfl)
theorem dX3_sumOfValues_49 : decode cX3_sumOfValues 49 = .ok (.istore 7, 2) := dk_54 7 (dk_at dksX3_sumOfValues_2 3 rfl rfl)
theorem dX3_sumOfValues_51 : decode cX3_sumOfValues 51 = .ok (.iconst 0, 1) := dk_3 (dk_at dksX3_sumOfValues_2 5 rfl rfl)
theorem dX3_sumOfValues_52 : decode cX3_sumOfValues 52 = .ok (.istore 8, 2) := dk_54 8 (dk_at dksX3_sumOfValues_2 6 rfl rfl)
theorem dX3_sumOfValues_54 : decode cX3_sumOfValues 54 = .ok (.iload 8, 2) := dk_21 8 (dk_at dksX3_sumOfValues_2 8 rfl rfl)
theorem dX3_sumOfValues_56 : decode cX3_sumOfValues 56 = .ok (.iload 7, 2) := dk_21 7 (dk_at dksX3_sumOfValues_2 10 rfl rfl)
theorem dX3_sumOfValues_58 : decode cX3_sumOfValues 58 = .ok (.if_icmp .ge 21, 3) := dk_162 0 21 (dk_at dksX3_sumOfValues_2 12 rfl rfl)
theorem dX3_sumOfValues_61 : decode cX3_sumOfValues 61 = .ok (.aload 6, 2) := dk_25 6 (dk_at dksX3_sumOfValues_2 15 rfl rfl)
theorem dX3_sumOfValues_63 : decode cX3_sumOfValues 63 = .ok (.iload 8, 2) := dk_21 8 (dk_at dksX3_sumOfValues_2 17 rfl rfl)
theorem dX3_sumOfValues_65 : decode cX3_sumOfValues 65 = .ok (.iaload, 1) := dk_46 (dk_at dksX3_sumOfValues_2 19 rfl rfl)
theorem dX3_sumOfValues_66 : decode cX3_sumOfValues 66 = .ok (.istore 9, 2) := dk_54 9 (dk_at dksX3_sumOfValues_2 20 rfl rfl)
theorem dX3_sumOfValues_68 : decode cX3_sumOfValues 68 = .ok (.iload_n 1, 1) := dk_27 (dk_at dksX3_sumOfValues_2 22 rfl rfl)
theorem dX3_sumOfValues_69 : decode cX3_sumOfValues 69 = .ok (.iload 9, 2) := dk_21 9 (dk_at dksX3_sumOfValues_3 0 rfl rfl)
theorem dX3_sumOfValues_71 : decode cX3_sumOfValues 71 = .ok (.iadd, 1) := dk_96 (dk_at dksX3_sumOfValues_3 2 rfl rfl)
theorem dX3_sumOfValues_72 : decode cX3_sumOfValues 72 = .ok (.istore_n 1, 1) := dk_60 (dk_at dksX3_sumOfValues_3 3 rfl rfl)
theorem dX3_sumOfValues_73 : decode cX3_sumOfValues 73 = .ok (.iinc 8 1, 3) := dk_132 8 1 (dk_at dksX3_sumOfValues_3 4 rfl rfl)
theorem dX3_sumOfValues_76 : decode cX3_sumOfValues 76 = .ok (.goto (-22), 3) := dk_167 255 234 (dk_at dksX3_sumOfValues_3 7 rfl rfl)
theorem dX3_sumOfValues_79 : decode cX3_sumOfValues 79 = .ok (.iinc 4 1, 3) := dk_132 4 1 (dk_at dksX3_sumOfValues_3 10 rfl rfl)
theorem dX3_sumOfValues_82 : decode cX3_sumOfValues 82 = .ok (.goto (-59), 3) := dk_167 255 197 (dk_at dksX3_sumOfValues_3 13 rfl rfl)
theorem dX3_sumOfValues_85 : decode cX3_sumOfValues 85 = .ok (.iload_n 1, 1) := dk_27 (dk_at dksX3_sumOfValues_3 16 rfl rfl)
theorem dX3_sumOfValues_86 : decode cX3_sumOfValues 86 = .ok (.ireturn, 1) := dk_172 (dk_at dksX3_sumOfValues_3 17 rfl rfl)
/-! PageGarden$Garden.sumOfValues()I -/
abbrev M_X3_sumOfValues (z0 n0 : Nat) (s' : gS) : gM := (RX3, cX3_sumOfValues, 10, (some FieldType.int), "sumOfValues", [], 7, z0, n0, s'.2.1, s'.2.2)
abbrev W_X3_sumOfValues (E : gE) (z0 n0 : Nat) (r : Int32) (s' : gS) (pc : Nat) (L : List (Nat × gV)) (st : List gV) (s : gS) : Prop := gW E (M_X3_sumOfValues z0 n0 s') (gQm E (M_X3_sumOfValues z0 n0 s') (.inl (some (vI r))) s') pc L st s
noncomputable def f_X3_sumOfValues_54b (κ : gK) (F : Nat) (k23 : Option Nat → Int32 → Option Nat → Int32 → Int32 → gS → Option (Int32 × gS)) (k54 : Option Nat → Int32 → Option Nat → Int32 → Int32 → Option Nat → Int32 → Int32 → gS → Option (Int32 × gS)) (l0 : Option Nat) (l1 : Int32) (l2 : Option Nat) (l3 : Int32) (l4 : Int32) (l6 : Option Nat) (l7 : Int32) (l8 : Int32) (s : gS) : Option (Int32 × gS) :=
  if l7 ≤ l8 then
    k23 l0 l1 l2 l3 (l4 + (1 : Int32)) s
  else
    gB1 (gaI s l6 0 l8) fun v1 =>
    k54 l0 (l1 + v1) l2 l3 l4 l6 l7 (l8 + (1 : Int32)) s
noncomputable def f_X3_sumOfValues_54 (κ : gK) (F : Nat) (k23 : Option Nat → Int32 → Option Nat → Int32 → Int32 → gS → Option (Int32 × gS)) : Nat → Option Nat → Int32 → Option Nat → Int32 → Int32 → Option Nat → Int32 → Int32 → gS → Option (Int32 × gS)
  | 0 => fun _ _ _ _ _ _ _ _ _ => none
  | n + 1 => f_X3_sumOfValues_54b κ F k23 (f_X3_sumOfValues_54 κ F k23 n)
set_option maxHeartbeats 4000000 in
theorem w_X3_sumOfValues_54b {E : gE} {F z0 n0 : Nat} {r : Int32} {s' : gS} {k23 : Option Nat → Int32 → Option Nat → Int32 → Int32 → gS → Option (Int32 × gS)} {k54 : Option Nat → Int32 → Option Nat → Int32 → Int32 → Option Nat → Int32 → Int32 → gS → Option (Int32 × gS)} (hk23 : ∀ (l0 : Option Nat) (l1 : Int32) (l2 : Option Nat) (l3 : Int32) (l4 : Int32) (s : gS), k23 l0 l1 l2 l3 l4 s = some (r, s') → W_X3_sumOfValues E z0 n0 r s' 23 [(0, vR l0), (1, vI l1), (2, vR l2), (3, vI l3), (4, vI l4)] [] s) (hk54 : ∀ (l0 : Option Nat) (l1 : Int32) (l2 : Option Nat) (l3 : Int32) (l4 : Int32) (l6 : Option Nat) (l7 : Int32) (l8 : Int32) (s : gS), k54 l0 l1 l2 l3 l4 l6 l7 l8 s = some (r, s') → W_X3_sumOfValues E z0 n0 r s' 54 [(0, vR l0), (1, vI l1), (2, vR l2), (3, vI l3), (4, vI l4), (6, vR l6), (7, vI l7), (8, vI l8)] [] s) : ∀ (l0 : Option Nat) (l1 : Int32) (l2 : Option Nat) (l3 : Int32) (l4 : Int32) (l6 : Option Nat) (l7 : Int32) (l8 : Int32)  (s : gS), f_X3_sumOfValues_54b (gk E) F k23 k54 l0 l1 l2 l3 l4 l6 l7 l8 s = some (r, s') → W_X3_sumOfValues E z0 n0 r s' 54 [(0, vR l0), (1, vI l1), (2, vR l2), (3, vI l3), (4, vI l4), (6, vR l6), (7, vI l7), (8, vI l8)] [] s := by
  intro l0 l1 l2 l3 l4 l6 l7 l8 s hB
  unfold f_X3_sumOfValues_54b at hB
  refine gw_iload 7 rfl dX3_sumOfValues_54 ?_
  refine gw_iload 6 rfl dX3_sumOfValues_56 ?_
  refine gw_icmp_ge (tgt := 79) dX3_sumOfValues_58 (by decide) (fun hcnd => ?_) (fun hcnd => ?_)
  · rw [if_pos hcnd] at hB
    refine gw_iinc (w := (1 : Int32)) (L' := [(4, vI (l4 + (1 : Int32))), (0, vR l0), (1, vI l1), (2, vR l2), (3, vI l3), (6, vR l6), (7, vI l7), (8, vI l8)]) 4 rfl (by decide) (Nat.le_of_ble_eq_true rfl) rfl dX3_sumOfValues_79 ?_
    refine gw_goto (tgt := 23) dX3_sumOfValues_82 (by decide) ?_
    exact gw_sub [1, 2, 3, 4, 0] rfl (hk23 _ _ _ _ _ _ hB)
  · rw [if_neg hcnd] at hB
    refine gw_aload 5 rfl dX3_sumOfValues_61 ?_
    refine gw_iload 7 rfl dX3_sumOfValues_63 ?_
    obtain ⟨v1, hv1, hB⟩ := gB1_some hB
    refine gw_iaload hv1 dX3_sumOfValues_65 ?_
    refine gw_istore (L' := [(9, vI v1), (0, vR l0), (1, vI l1), (2, vR l2), (3, vI l3), (4, vI l4), (6, vR l6), (7, vI l7), (8, vI l8)]) (Nat.le_of_ble_eq_true rfl) rfl dX3_sumOfValues_66 ?_
    refine gw_iload_n 2 rfl dX3_sumOfValues_68 ?_
    refine gw_iload 0 rfl dX3_sumOfValues_69 ?_
    refine gw_iadd dX3_sumOfValues_71 ?_
    refine gw_istore_n (L' := [(1, vI (l1 + v1)), (9, vI v1), (0, vR l0), (2, vR l2), (3, vI l3), (4, vI l4), (6, vR l6), (7, vI l7), (8, vI l8)]) (Nat.le_of_ble_eq_true rfl) rfl dX3_sumOfValues_72 ?_
    refine gw_iinc (w := (1 : Int32)) (L' := [(8, vI (l8 + (1 : Int32))), (1, vI (l1 + v1)), (9, vI v1), (0, vR l0), (2, vR l2), (3, vI l3), (4, vI l4), (6, vR l6), (7, vI l7)]) 8 rfl (by decide) (Nat.le_of_ble_eq_true rfl) rfl dX3_sumOfValues_73 ?_
    refine gw_goto (tgt := 54) dX3_sumOfValues_76 (by decide) ?_
    exact gw_sub [3, 1, 4, 5, 6, 7, 8, 0] rfl (hk54 _ _ _ _ _ _ _ _ _ hB)
theorem w_X3_sumOfValues_54 {E : gE} {F z0 n0 : Nat} {r : Int32} {s' : gS} {k23 : Option Nat → Int32 → Option Nat → Int32 → Int32 → gS → Option (Int32 × gS)} (hk23 : ∀ (l0 : Option Nat) (l1 : Int32) (l2 : Option Nat) (l3 : Int32) (l4 : Int32) (s : gS), k23 l0 l1 l2 l3 l4 s = some (r, s') → W_X3_sumOfValues E z0 n0 r s' 23 [(0, vR l0), (1, vI l1), (2, vR l2), (3, vI l3), (4, vI l4)] [] s) : ∀ (n : Nat) (l0 : Option Nat) (l1 : Int32) (l2 : Option Nat) (l3 : Int32) (l4 : Int32) (l6 : Option Nat) (l7 : Int32) (l8 : Int32)  (s : gS), f_X3_sumOfValues_54 (gk E) F k23 n l0 l1 l2 l3 l4 l6 l7 l8 s = some (r, s') → W_X3_sumOfValues E z0 n0 r s' 54 [(0, vR l0), (1, vI l1), (2, vR l2), (3, vI l3), (4, vI l4), (6, vR l6), (7, vI l7), (8, vI l8)] [] s := by
  intro n
  induction n with
  | zero => intro l0 l1 l2 l3 l4 l6 l7 l8 s hB; cases hB
  | succ n ih => intro l0 l1 l2 l3 l4 l6 l7 l8 s hB; exact w_X3_sumOfValues_54b hk23 ih l0 l1 l2 l3 l4 l6 l7 l8 s hB
noncomputable def f_X3_sumOfValues_23b (κ : gK) (F : Nat) (k23 : Option Nat → Int32 → Option Nat → Int32 → Int32 → gS → Option (Int32 × gS)) (l0 : Option Nat) (l1 : Int32) (l2 : Option Nat) (l3 : Int32) (l4 : Int32) (s : gS) : Option (Int32 × gS) :=
  if l3 ≤ l4 then
    some (l1, s)
  else
    gB1 (gaI s l2 0 l4) fun v1 =>
    gB1 (gck s l0 7) fun _ =>
    gB2 (f_X3_leaf κ F l0 v1 s) fun v3 s2 =>
    gB1 (gfR s2 v3 2 1) fun v5 =>
    gB1 (gal s2 v5) fun v6 =>
    f_X3_sumOfValues_54 κ F k23 F l0 l1 l2 l3 l4 v5 v6 (0 : Int32) s2
noncomputable def f_X3_sumOfValues_23 (κ : gK) (F : Nat)  : Nat → Option Nat → Int32 → Option Nat → Int32 → Int32 → gS → Option (Int32 × gS)
  | 0 => fun _ _ _ _ _ _ => none
  | n + 1 => f_X3_sumOfValues_23b κ F  (f_X3_sumOfValues_23 κ F  n)
set_option maxHeartbeats 4000000 in
theorem w_X3_sumOfValues_23b {E : gE} {F z0 n0 : Nat} {r : Int32} {s' : gS} {k23 : Option Nat → Int32 → Option Nat → Int32 → Int32 → gS → Option (Int32 × gS)} (hk23 : ∀ (l0 : Option Nat) (l1 : Int32) (l2 : Option Nat) (l3 : Int32) (l4 : Int32) (s : gS), k23 l0 l1 l2 l3 l4 s = some (r, s') → W_X3_sumOfValues E z0 n0 r s' 23 [(0, vR l0), (1, vI l1), (2, vR l2), (3, vI l3), (4, vI l4)] [] s) : ∀ (l0 : Option Nat) (l1 : Int32) (l2 : Option Nat) (l3 : Int32) (l4 : Int32)  (s : gS), f_X3_sumOfValues_23b (gk E) F k23 l0 l1 l2 l3 l4 s = some (r, s') → W_X3_sumOfValues E z0 n0 r s' 23 [(0, vR l0), (1, vI l1), (2, vR l2), (3, vI l3), (4, vI l4)] [] s := by
  intro l0 l1 l2 l3 l4 s hB
  unfold f_X3_sumOfValues_23b at hB
  refine gw_iload 4 rfl dX3_sumOfValues_23 ?_
  refine gw_iload_n 3 rfl dX3_sumOfValues_25 ?_
  refine gw_icmp_ge (tgt := 85) dX3_sumOfValues_26 (by decide) (fun hcnd => ?_) (fun hcnd => ?_)
  · rw [if_pos hcnd] at hB
    refine gw_iload_n 1 rfl dX3_sumOfValues_85 ?_
    obtain ⟨rfl, rfl⟩ := Prod.mk.inj (Option.some.inj hB)
    exact gw_iret rfl rfl rfl dX3_sumOfValues_86
  · rw [if_neg hcnd] at hB
    refine gw_aload_n 2 rfl dX3_sumOfValues_29 ?_
    refine gw_iload 4 rfl dX3_sumOfValues_30 ?_
    obtain ⟨v1, hv1, hB⟩ := gB1_some hB
    refine gw_iaload hv1 dX3_sumOfValues_32 ?_
    refine gw_istore (L' := [(5, vI v1), (0, vR l0), (1, vI l1), (2, vR l2), (3, vI l3), (4, vI l4)]) (Nat.le_of_ble_eq_true rfl) rfl dX3_sumOfValues_33 ?_
    refine gw_aload_n 1 rfl dX3_sumOfValues_35 ?_
    refine gw_iload 0 rfl dX3_sumOfValues_36 ?_
    obtain ⟨u0, hu4, hB⟩ := gB1_some hB
    obtain ⟨v3, s2, hv3, hB⟩ := gB2_some hB
    refine gw_callV (y := yX3_leaf) (lw_V q2057 q2059 qs26 q110 q2060) hdV_X3_leaf gcl7 hu4 (As := [vI v1]) (rest := []) (m_X3_leaf _ _ _ _ _ hv3) (Nat.le_of_ble_eq_true rfl) (Nat.le_of_ble_eq_true rfl) rfl (Nat.le_of_ble_eq_true rfl) dX3_sumOfValues_38 (gCont_i ?_)
    obtain ⟨v5, hv5, hB⟩ := gB1_some hB
    refine gw_getfN (C := RX9) (T := TX9) (N := 2) (k := 1) gcl2 (by decide) in_X9 q2173 (gfR_spec hv5) dX3_sumOfValues_41 ?_
    refine gw_astore (L' := [(6, vR v5), (5, vI v1), (0, vR l0), (1, vI l1), (2, vR l2), (3, vI l3), (4, vI l4)]) (Nat.le_of_ble_eq_true rfl) rfl dX3_sumOfValues_44 ?_
    refine gw_aload 0 rfl dX3_sumOfValues_46 ?_
    obtain ⟨v6, hv6, hB⟩ := gB1_some hB
    refine gw_alen hv6 dX3_sumOfValues_48 ?_
    refine gw_istore (L' := [(7, vI v6), (6, vR v5), (5, vI v1), (0, vR l0), (1, vI l1), (2, vR l2), (3, vI l3), (4, vI l4)]) (Nat.le_of_ble_eq_true rfl) rfl dX3_sumOfValues_49 ?_
    refine gw_iconst (v := (0 : Int32)) (by decide) dX3_sumOfValues_51 ?_
    refine gw_istore (L' := [(8, vI (0 : Int32)), (7, vI v6), (6, vR v5), (5, vI v1), (0, vR l0), (1, vI l1), (2, vR l2), (3, vI l3), (4, vI l4)]) (Nat.le_of_ble_eq_true rfl) rfl dX3_sumOfValues_52 ?_
    exact gw_sub [4, 5, 6, 7, 8, 2, 1, 0] rfl (w_X3_sumOfValues_54 hk23 F _ _ _ _ _ _ _ _ _ hB)
theorem w_X3_sumOfValues_23 {E : gE} {F z0 n0 : Nat} {r : Int32} {s' : gS}   : ∀ (n : Nat) (l0 : Option Nat) (l1 : Int32) (l2 : Option Nat) (l3 : Int32) (l4 : Int32)  (s : gS), f_X3_sumOfValues_23 (gk E) F  n l0 l1 l2 l3 l4 s = some (r, s') → W_X3_sumOfValues E z0 n0 r s' 23 [(0, vR l0), (1, vI l1), (2, vR l2), (3, vI l3), (4, vI l4)] [] s := by
  intro n
  induction n with
  | zero => intro l0 l1 l2 l3 l4 s hB; cases hB
  | succ n ih => intro l0 l1 l2 l3 l4 s hB; exact w_X3_sumOfValues_23b ih l0 l1 l2 l3 l4 s hB
noncomputable def f_X3_sumOfValues_0 (κ : gK) (F : Nat)  (l0 : Option Nat) (s : gS) : Option (Int32 × gS) :=
  gB1 (gck s l0 7) fun _ =>
  gB2 (f_X3_now κ F l0  s) fun v2 s1 =>
  gB1 (gfI s1 v2 4 1) fun v4 =>
  gB1 (gck s1 l0 7) fun _ =>
  gB2 (f_X3_directory κ F l0 v4 s1) fun v6 s5 =>
  gB1 (gfR s5 v6 3 0) fun v8 =>
  gB1 (gal s5 v8) fun v9 =>
  f_X3_sumOfValues_23 κ F  F l0 (0 : Int32) v8 v9 (0 : Int32) s5
set_option maxHeartbeats 4000000 in
theorem w_X3_sumOfValues_0 {E : gE} {F z0 n0 : Nat} {r : Int32} {s' : gS}   : ∀ (l0 : Option Nat)  (s : gS), f_X3_sumOfValues_0 (gk E) F  l0 s = some (r, s') → W_X3_sumOfValues E z0 n0 r s' 0 [(0, vR l0)] [] s := by
  intro l0 s hB
  unfold f_X3_sumOfValues_0 at hB
  refine gw_iconst (v := (0 : Int32)) (by decide) dX3_sumOfValues_0 ?_
  refine gw_istore_n (L' := [(1, vI (0 : Int32)), (0, vR l0)]) (Nat.le_of_ble_eq_true rfl) rfl dX3_sumOfValues_1 ?_
  refine gw_aload_n 1 rfl dX3_sumOfValues_2 ?_
  refine gw_aload_n 1 rfl dX3_sumOfValues_3 ?_
  obtain ⟨u0, hu3, hB⟩ := gB1_some hB
  obtain ⟨v2, s1, hv2, hB⟩ := gB2_some hB
  refine gw_callV (y := yX3_now) (lw_V q1302 q1303 q1304 q110 q1305) hdV_X3_now gcl7 hu3 (As := []) (rest := [vR l0]) (m_X3_now _ _ _ _ hv2) (Nat.le_of_ble_eq_true rfl) (Nat.le_of_ble_eq_true rfl) rfl (Nat.le_of_ble_eq_true rfl) dX3_sumOfValues_4 (gCont_i ?_)
  obtain ⟨v4, hv4, hB⟩ := gB1_some hB
  refine gw_getfN (C := RX4) (T := TX4) (N := 3) (k := 1) gcl4 (by decide) in_X4 q201 (gfI_spec hv4) dX3_sumOfValues_7 ?_
  obtain ⟨u0, hu7, hB⟩ := gB1_some hB
  obtain ⟨v6, s5, hv6, hB⟩ := gB2_some hB
  refine gw_callV (y := yX3_directory) (lw_V q2041 q2043 qs23 q110 q2044) hdV_X3_directory gcl7 hu7 (As := [vI v4]) (rest := []) (m_X3_directory _ _ _ _ _ hv6) (Nat.le_of_ble_eq_true rfl) (Nat.le_of_ble_eq_true rfl) rfl (Nat.le_of_ble_eq_true rfl) dX3_sumOfValues_10 (gCont_i ?_)
  obtain ⟨v8, hv8, hB⟩ := gB1_some hB
  refine gw_getfN (C := RX5) (T := TX5) (N := 1) (k := 0) gcl3 (by decide) in_X5 q321 (gfR_spec hv8) dX3_sumOfValues_13 ?_
  refine gw_astore_n (L' := [(2, vR v8), (1, vI (0 : Int32)), (0, vR l0)]) (Nat.le_of_ble_eq_true rfl) rfl dX3_sumOfValues_16 ?_
  refine gw_aload_n 0 rfl dX3_sumOfValues_17 ?_
  obtain ⟨v9, hv9, hB⟩ := gB1_some hB
  refine gw_alen hv9 dX3_sumOfValues_18 ?_
  refine gw_istore_n (L' := [(3, vI v9), (2, vR v8), (1, vI (0 : Int32)), (0, vR l0)]) (Nat.le_of_ble_eq_true rfl) rfl dX3_sumOfValues_19 ?_
  refine gw_iconst (v := (0 : Int32)) (by decide) dX3_sumOfValues_20 ?_
  refine gw_istore (L' := [(4, vI (0 : Int32)), (3, vI v9), (2, vR v8), (1, vI (0 : Int32)), (0, vR l0)]) (Nat.le_of_ble_eq_true rfl) rfl dX3_sumOfValues_21 ?_
  exact gw_sub [4, 3, 2, 1, 0] rfl (w_X3_sumOfValues_23  F _ _ _ _ _ _ hB)
noncomputable def f_X3_sumOfValues (κ : gK) (F : Nat) (a0 : Option Nat) (s : gS) : Option (Int32 × gS) := f_X3_sumOfValues_0 κ F a0 s
theorem m_X3_sumOfValues {E : gE} {F : Nat} (a0 : Option Nat) (s : gS) (r : Int32) (s' : gS) (h : f_X3_sumOfValues (gk E) F a0 s = some (r, s')) : gCT E 7 yX3_sumOfValues (ws_ yX3_sumOfValues cX3_sumOfValues 10 (some FieldType.int)) [vR a0] s (.inl (some (vI r))) s' := by
  refine gCT_of2 (fun h => absurd h (by decide)) (plainFor_of_name (by decide)) (Nat.le_of_ble_eq_true rfl) ?_
  exact gw_sub [0] rfl (w_X3_sumOfValues_0 _ _ h)
def dkwX3_value_9 : List UInt8 := [172]
abbrev dktX3_value_9 : List UInt8 := dkwX3_value_9 ++ []
def dkwX3_value_8 : List UInt8 := [182, 1, 69, 167, 0, 21, 42, 180, 0, 89, 167, 0, 14, 42, 180, 0, 93, 167, 0, 7, 42, 182, 1, 134]
abbrev dktX3_value_8 : List UInt8 := dkwX3_value_8 ++ dktX3_value_9
def dkwX3_value_7 : List UInt8 := [182, 1, 69, 167, 0, 45, 42, 180, 0, 80, 199, 0, 7, 3, 167, 0, 34, 42, 180, 0, 80, 180, 0, 216]
abbrev dktX3_value_7 : List UInt8 := dkwX3_value_7 ++ dktX3_value_8
def dkwX3_value_6 : List UInt8 := [4, 167, 0, 69, 42, 180, 0, 80, 199, 0, 7, 3, 167, 0, 58, 42, 180, 0, 80, 180, 0, 194]
abbrev dktX3_value_6 : List UInt8 := dkwX3_value_6 ++ dktX3_value_7
def dkwX3_value_5 : List UInt8 := [182, 1, 130, 167, 0, 91, 42, 182, 1, 131, 167, 0, 84, 42, 180, 0, 80, 199, 0, 7, 3, 167, 0, 73]
abbrev dktX3_value_5 : List UInt8 := dkwX3_value_5 ++ dktX3_value_6
def dkwX3_value_4 : List UInt8 := [182, 0, 155, 180, 0, 223, 182, 1, 119, 167, 0, 108, 42, 42, 182, 0, 155, 180, 0, 223, 182, 0, 123]
abbrev dktX3_value_4 : List UInt8 := dkwX3_value_4 ++ dktX3_value_5
def dkwX3_value_3 : List UInt8 := [182, 1, 4, 167, 0, 136, 42, 182, 1, 1, 167, 0, 129, 42, 182, 0, 171, 167, 0, 122, 42, 42]
abbrev dktX3_value_3 : List UInt8 := dkwX3_value_3 ++ dktX3_value_4
def dkwX3_value_2 : List UInt8 := [42, 178, 0, 42, 182, 1, 4, 167, 0, 156, 42, 178, 0, 187, 182, 1, 4, 167, 0, 146, 42, 178, 0, 168]
abbrev dktX3_value_2 : List UInt8 := dkwX3_value_2 ++ dktX3_value_3
def dkwX3_value_1 : List UInt8 := [170, 0, 0, 0, 0, 0, 226, 0, 0, 0, 0, 0, 0, 0, 12, 0, 0, 0, 67, 0, 0, 0, 77, 0, 0, 0, 87, 0, 0, 0, 97, 0, 0, 0, 104, 0, 0, 0, 111, 0, 0, 0, 125, 0, 0, 0, 142, 0, 0, 0, 149, 0, 0, 0, 164, 0, 0, 0, 188, 0, 0, 0, 212, 0, 0, 0, 219]
abbrev dktX3_value_1 : List UInt8 := dkwX3_value_1 ++ dktX3_value_2
def dkwX3_value_0 : List UInt8 := [27]
abbrev dktX3_value_0 : List UInt8 := dkwX3_value_0 ++ dktX3_value_1
theorem dksX3_value_0 : cX3_value.data.toList.drop 0 = dktX3_value_0 := by decide +kernel
theorem dksX3_value_1 : cX3_value.data.toList.drop 1 = dktX3_value_1 := dk_seg dksX3_value_0 1 rfl rfl
theorem dksX3_value_2 : cX3_value.data.toList.drop 68 = dktX3_value_2 := dk_seg dksX3_value_1 67 rfl rfl
theorem dksX3_value_3 : cX3_value.data.toList.drop 92 = dktX3_value_3 := dk_seg dksX3_value_2 24 rfl rfl
theorem dksX3_value_4 : cX3_value.data.toList.drop 114 = dktX3_value_4 := dk_seg dksX3_value_3 22 rfl rfl
theorem dksX3_value_5 : cX3_value.data.toList.drop 137 = dktX3_value_5 := dk_seg dksX3_value_4 23 rfl rfl
theorem dksX3_value_6 : cX3_value.data.toList.drop 161 = dktX3_value_6 := dk_seg dksX3_value_5 24 rfl rfl
theorem dksX3_value_7 : cX3_value.data.toList.drop 183 = dktX3_value_7 := dk_seg dksX3_value_6 22 rfl rfl
theorem dksX3_value_8 : cX3_value.data.toList.drop 207 = dktX3_value_8 := dk_seg dksX3_value_7 24 rfl rfl
theorem dksX3_value_9 : cX3_value.data.toList.drop 231 = dktX3_value_9 := dk_seg dksX3_value_8 24 rfl rfl
theorem dX3_value_0 : decode cX3_value 0 = .ok (.iload_n 1, 1) := dk_27 (dk_at dksX3_value_0 0 rfl rfl)
theorem dX3_value_1 : decode cX3_value 1 = .ok (.tableswitch 226 0 12 #[67, 77, 87, 97, 104, 111, 125, 142, 149, 164, 188, 212, 219], 67) := by decide +kernel
theorem dX3_value_68 : decode cX3_value 68 = .ok (.aload_n 0, 1) := dk_42 (dk_at dksX3_value_2 0 rfl rfl)
theorem dX3_value_69 : decode cX3_value 69 = .ok (.getstatic 42, 3) := dk_178 0 42 (dk_at dksX3_value_2 1 rfl rfl)
theorem dX3_value_72 : decode cX3_value 72 = .ok (.invokevirtual 260, 3) := dk_182 1 4 (dk_at dksX3_value_2 4 rfl rfl)
theorem dX3_value_75 : decode cX3_value 75 = .ok (.goto 156, 3) := dk_167 0 156 (dk_at dksX3_value_2 7 rfl rfl)
theorem dX3_value_78 : decode cX3_value 78 = .ok (.aload_n 0, 1) := dk_42 (dk_at dksX3_value_2 10 rfl rfl)
theorem dX3_value_79 : decode cX3_value 79 = .ok (.getstatic 187, 3) := dk_178 0 187 (dk_at dksX3_value_2 11 rfl rfl)
theorem dX3_value_82 : decode cX3_value 82 = .ok (.invokevirtual 260, 3) := dk_182 1 4 (dk_at dksX3_value_2 14 rfl rfl)
theorem dX3_value_85 : decode cX3_value 85 = .ok (.goto 146, 3) := dk_167 0 146 (dk_at dksX3_value_2 17 rfl rfl)
theorem dX3_value_88 : decode cX3_value 88 = .ok (.aload_n 0, 1) := dk_42 (dk_at dksX3_value_2 20 rfl rfl)
theorem dX3_value_89 : decode cX3_value 89 = .ok (.getstatic 168, 3) := dk_178 0 168 (dk_at dksX3_value_2 21 rfl rfl)
theorem dX3_value_92 : decode cX3_value 92 = .ok (.invokevirtual 260, 3) := dk_182 1 4 (dk_at dksX3_value_3 0 rfl rfl)
theorem dX3_value_95 : decode cX3_value 95 = .ok (.goto 136, 3) := dk_167 0 136 (dk_at dksX3_value_3 3 rfl rfl)
theorem dX3_value_98 : decode cX3_value 98 = .ok (.aload_n 0, 1) := dk_42 (dk_at dksX3_value_3 6 rfl rfl)
theorem dX3_value_99 : decode cX3_value 99 = .ok (.invokevirtual 257, 3) := dk_182 1 1 (dk_at dksX3_value_3 7 rfl rfl)
theorem dX3_value_102 : decode cX3_value 102 = .ok (.goto 129, 3) := dk_167 0 129 (dk_at dksX3_value_3 10 rfl rfl)
theorem dX3_value_105 : decode cX3_value 105 = .ok (.aload_n 0, 1) := dk_42 (dk_at dksX3_value_3 13 rfl rfl)
theorem dX3_value_106 : decode cX3_value 106 = .ok (.invokevirtual 171, 3) := dk_182 0 171 (dk_at dksX3_value_3 14 rfl rfl)
theorem dX3_value_109 : decode cX3_value 109 = .ok (.goto 122, 3) := dk_167 0 122 (dk_at dksX3_value_3 17 rfl rfl)
theorem dX3_value_112 : decode cX3_value 112 = .ok (.aload_n 0, 1) := dk_42 (dk_at dksX3_value_3 20 rfl rfl)
theorem dX3_value_113 : decode cX3_value 113 = .ok (.aload_n 0, 1) := dk_42 (dk_at dksX3_value_3 21 rfl rfl)
theorem dX3_value_114 : decode cX3_value 114 = .ok (.invokevirtual 155, 3) := dk_182 0 155 (dk_at dksX3_value_4 0 rfl rfl)
theorem dX3_value_117 : decode cX3_value 117 = .ok (.getfield 223, 3) := dk_180 0 223 (dk_at dksX3_value_4 3 rfl rfl)
theorem dX3_value_120 : decode cX3_value 120 = .ok (.invokevirtual 375, 3) := dk_182 1 119 (dk_at dksX3_value_4 6 rfl rfl)
theorem dX3_value_123 : decode cX3_value 123 = .ok (.goto 108, 3) := dk_167 0 108 (dk_at dksX3_value_4 9 rfl rfl)
theorem dX3_value_126 : decode cX3_value 126 = .ok (.aload_n 0, 1) := dk_42 (dk_at dksX3_value_4 12 rfl rfl)
theorem dX3_value_127 : decode cX3_value 127 = .ok (.aload_n 0, 1) := dk_42 (dk_at dksX3_value_4 13 rfl rfl)
theorem dX3_value_128 : decode cX3_value 128 = .ok (.invokevirtual 155, 3) := dk_182 0 155 (dk_at dksX3_value_4 14 rfl rfl)
theorem dX3_value_131 : decode cX3_value 131 = .ok (.getfield 223, 3) := dk_180 0 223 (dk_at dksX3_value_4 17 rfl rfl)
theorem dX3_value_134 : decode cX3_value 134 = .ok (.invokevirtual 123, 3) := dk_182 0 123 (dk_at dksX3_value_4 20 rfl rfl)
theorem dX3_value_137 : decode cX3_value 137 = .ok (.invokevirtual 386, 3) := dk_182 1 130 (dk_at dksX3_value_5 0 rfl rfl)
theorem dX3_value_140 : decode cX3_value 140 = .ok (.goto 91, 3) := dk_167 0 91 (dk_at dksX3_value_5 3 rfl rfl)
theorem dX3_value_143 : decode cX3_value 143 = .ok (.aload_n 0, 1) := dk_42 (dk_at dksX3_value_5 6 rfl rfl)
theorem dX3_value_144 : decode cX3_value 144 = .ok (.invokevirtual 387, 3) := dk_182 1 131 (dk_at dksX3_value_5 7 rfl rfl)
theorem dX3_value_147 : decode cX3_value 147 = .ok (.goto 84, 3) := dk_167 0 84 (dk_at dksX3_value_5 10 rfl rfl)
theorem dX3_value_150 : decode cX3_value 150 = .ok (.aload_n 0, 1) := dk_42 (dk_at dksX3_value_5 13 rfl rfl)
theorem dX3_value_151 : decode cX3_value 151 = .ok (.getfield 80, 3) := dk_180 0 80 (dk_at dksX3_value_5 14 rfl rfl)
theorem dX3_value_154 : decode cX3_value 154 = .ok (.ifnonnull 7, 3) := dk_199 0 7 (dk_at dksX3_value_5 17 rfl rfl)
theorem dX3_value_157 : decode cX3_value 157 = .ok (.iconst 0, 1) := dk_3 (dk_at dksX3_value_5 20 rfl rfl)
theorem dX3_value_158 : decode cX3_value 158 = .ok (.goto 73, 3) := dk_167 0 73 (dk_at dksX3_value_5 21 rfl rfl)
theorem dX3_value_161 : decode cX3_value 161 = .ok (.iconst 1, 1) := dk_4 (dk_at dksX3_value_6 0 rfl rfl)
theorem dX3_value_162 : decode cX3_value 162 = .ok (.goto 69, 3) := dk_167 0 69 (dk_at dksX3_value_6 1 rfl rfl)
theorem dX3_value_165 : decode cX3_value 165 = .ok (.aload_n 0, 1) := dk_42 (dk_at dksX3_value_6 4 rfl rfl)
theorem dX3_value_166 : decode cX3_value 166 = .ok (.getfield 80, 3) := dk_180 0 80 (dk_at dksX3_value_6 5 rfl rfl)
theorem dX3_value_169 : decode cX3_value 169 = .ok (.ifnonnull 7, 3) := dk_199 0 7 (dk_at dksX3_value_6 8 rfl rfl)
theorem dX3_value_172 : decode cX3_value 172 = .ok (.iconst 0, 1) := dk_3 (dk_at dksX3_value_6 11 rfl rfl)
theorem dX3_value_173 : decode cX3_value 173 = .ok (.goto 58, 3) := dk_167 0 58 (dk_at dksX3_value_6 12 rfl rfl)
theorem dX3_value_176 : decode cX3_value 176 = .ok (.aload_n 0, 1) := dk_42 (dk_at dksX3_value_6 15 rfl rfl)
theorem dX3_value_177 : decode cX3_value 177 = .ok (.getfield 80, 3) := dk_180 0 80 (dk_at dksX3_value_6 16 rfl rfl)
theorem dX3_value_180 : decode cX3_value 180 = .ok (.getfield 194, 3) := dk_180 0 194 (dk_at dksX3_value_6 19 rfl rfl)
theorem dX3_value_183 : decode cX3_value 183 = .ok (.invokevirtual 325, 3) := dk_182 1 69 (dk_at dksX3_value_7 0 rfl rfl)
theorem dX3_value_186 : decode cX3_value 186 = .ok (.goto 45, 3) := dk_167 0 45 (dk_at dksX3_value_7 3 rfl rfl)
theorem dX3_value_189 : decode cX3_value 189 = .ok (.aload_n 0, 1) := dk_42 (dk_at dksX3_value_7 6 rfl rfl)
theorem dX3_value_190 : decode cX3_value 190 = .ok (.getfield 80, 3) := dk_180 0 80 (dk_at dksX3_value_7 7 rfl rfl)
theorem dX3_value_193 : decode cX3_value 193 = .ok (.ifnonnull 7, 3) := dk_199 0 7 (dk_at dksX3_value_7 10 rfl rfl)
theorem dX3_value_196 : decode cX3_value 196 = .ok (.iconst 0, 1) := dk_3 (dk_at dksX3_value_7 13 rfl rfl)
theorem dX3_value_197 : decode cX3_value 197 = .ok (.goto 34, 3) := dk_167 0 34 (dk_at dksX3_value_7 14 rfl rfl)
theorem dX3_value_200 : decode cX3_value 200 = .ok (.aload_n 0, 1) := dk_42 (dk_at dksX3_value_7 17 rfl rfl)
theorem dX3_value_201 : decode cX3_value 201 = .ok (.getfield 80, 3) := dk_180 0 80 (dk_at dksX3_value_7 18 rfl rfl)
theorem dX3_value_204 : decode cX3_value 204 = .ok (.getfield 216, 3) := dk_180 0 216 (dk_at dksX3_value_7 21 rfl rfl)
theorem dX3_value_207 : decode cX3_value 207 = .ok (.invokevirtual 325, 3) := dk_182 1 69 (dk_at dksX3_value_8 0 rfl rfl)
theorem dX3_value_210 : decode cX3_value 210 = .ok (.goto 21, 3) := dk_167 0 21 (dk_at dksX3_value_8 3 rfl rfl)
theorem dX3_value_213 : decode cX3_value 213 = .ok (.aload_n 0, 1) := dk_42 (dk_at dksX3_value_8 6 rfl rfl)
theorem dX3_value_214 : decode cX3_value 214 = .ok (.getfield 89, 3) := dk_180 0 89 (dk_at dksX3_value_8 7 rfl rfl)
theorem dX3_value_217 : decode cX3_value 217 = .ok (.goto 14, 3) := dk_167 0 14 (dk_at dksX3_value_8 10 rfl rfl)
theorem dX3_value_220 : decode cX3_value 220 = .ok (.aload_n 0, 1) := dk_42 (dk_at dksX3_value_8 13 rfl rfl)
theorem dX3_value_221 : decode cX3_value 221 = .ok (.getfield 93, 3) := dk_180 0 93 (dk_at dksX3_value_8 14 rfl rfl)
theorem dX3_value_224 : decode cX3_value 224 = .ok (.goto 7, 3) := dk_167 0 7 (dk_at dksX3_value_8 17 rfl rfl)
theorem dX3_value_227 : decode cX3_value 227 = .ok (.aload_n 0, 1) := dk_42 (dk_at dksX3_value_8 20 rfl rfl)
theorem dX3_value_228 : decode cX3_value 228 = .ok (.invokevirtual 390, 3) := dk_182 1 134 (dk_at dksX3_value_8 21 rfl rfl)
theorem dX3_value_231 : decode cX3_value 231 = .ok (.ireturn, 1) := dk_172 (dk_at dksX3_value_9 0 rfl rfl)
/-! PageGarden$Garden.value(I)I -/
abbrev M_X3_value (z0 n0 : Nat) (s' : gS) : gM := (RX3, cX3_value, 2, (some FieldType.int), "value", [], 8, z0, n0, s'.2.1, s'.2.2)
abbrev W_X3_value (E : gE) (z0 n0 : Nat) (r : Int32) (s' : gS) (pc : Nat) (L : List (Nat × gV)) (st : List gV) (s : gS) : Prop := gW E (M_X3_value z0 n0 s') (gQm E (M_X3_value z0 n0 s') (.inl (some (vI r))) s') pc L st s
noncomputable def f_X3_value_231 (κ : gK) (F : Nat)  (t0 : Int32) (s : gS) : Option (Int32 × gS) :=
  some (t0, s)
set_option maxHeartbeats 4000000 in
theorem w_X3_value_231 {E : gE} {F z0 n0 : Nat} {r : Int32} {s' : gS}   : ∀  (t0 : Int32) (s : gS), f_X3_value_231 (gk E) F  t0 s = some (r, s') → W_X3_value E z0 n0 r s' 231 [] [vI t0] s := by
  intro t0 s hB
  unfold f_X3_value_231 at hB
  obtain ⟨rfl, rfl⟩ := Prod.mk.inj (Option.some.inj hB)
  exact gw_iret rfl rfl rfl dX3_value_231
noncomputable def f_X3_value_0 (κ : gK) (F : Nat)  (l0 : Option Nat) (l1 : Int32) (s : gS) : Option (Int32 × gS) :=
  if l1 = (0 : Int32) then
    gB1 (gck s l0 7) fun _ =>
    gB2 (f_X3_inState κ F l0 (κ.2 0) s) fun v2 s1 =>
    f_X3_value_231 κ F  v2 s1
  else
  if l1 = (1 : Int32) then
    gB1 (gck s l0 7) fun _ =>
    gB2 (f_X3_inState κ F l0 (κ.2 1) s) fun v5 s4 =>
    f_X3_value_231 κ F  v5 s4
  else
  if l1 = (2 : Int32) then
    gB1 (gck s l0 7) fun _ =>
    gB2 (f_X3_inState κ F l0 (κ.2 2) s) fun v8 s7 =>
    f_X3_value_231 κ F  v8 s7
  else
  if l1 = (3 : Int32) then
    gB1 (gck s l0 7) fun _ =>
    gB2 (f_X3_diggable κ F l0  s) fun v11 s10 =>
    f_X3_value_231 κ F  v11 s10
  else
  if l1 = (4 : Int32) then
    gB1 (gck s l0 7) fun _ =>
    gB2 (f_X3_needed κ F l0  s) fun v14 s13 =>
    f_X3_value_231 κ F  v14 s13
  else
  if l1 = (5 : Int32) then
    gB1 (gck s l0 7) fun _ =>
    gB2 (f_X3_now κ F l0  s) fun v17 s16 =>
    gB1 (gfI s16 v17 4 1) fun v19 =>
    gB1 (gck s16 l0 7) fun _ =>
    gB2 (f_X3_entriesBy κ F l0 v19 s16) fun v21 s20 =>
    f_X3_value_231 κ F  v21 s20
  else
  if l1 = (6 : Int32) then
    gB1 (gck s l0 7) fun _ =>
    gB2 (f_X3_now κ F l0  s) fun v24 s23 =>
    gB1 (gfI s23 v24 4 1) fun v26 =>
    gB1 (gck s23 l0 7) fun _ =>
    gB2 (f_X3_directory κ F l0 v26 s23) fun v28 s27 =>
    gB1 (gck s27 v28 3) fun _ =>
    gB2 (f_X5_size κ F v28  s27) fun v31 s30 =>
    f_X3_value_231 κ F  v31 s30
  else
  if l1 = (7 : Int32) then
    gB1 (gck s l0 7) fun _ =>
    gB2 (f_X3_openReaders κ F l0  s) fun v34 s33 =>
    f_X3_value_231 κ F  v34 s33
  else
  if l1 = (8 : Int32) then
    gB1 (gfR s l0 7 6) fun v36 =>
    if v36 = none then
      f_X3_value_231 κ F  (0 : Int32) s
    else
      f_X3_value_231 κ F  (1 : Int32) s
  else
  if l1 = (9 : Int32) then
    gB1 (gfR s l0 7 6) fun v37 =>
    if v37 = none then
      f_X3_value_231 κ F  (0 : Int32) s
    else
      gB1 (gfR s l0 7 6) fun v38 =>
      gB1 (gfR s v38 6 0) fun v39 =>
      gB1 (gck s v39 12) fun _ =>
      gB2 (f_J27_size κ F v39  s) fun v41 s40 =>
      f_X3_value_231 κ F  v41 s40
  else
  if l1 = (10 : Int32) then
    gB1 (gfR s l0 7 6) fun v43 =>
    if v43 = none then
      f_X3_value_231 κ F  (0 : Int32) s
    else
      gB1 (gfR s l0 7 6) fun v44 =>
      gB1 (gfR s v44 6 1) fun v45 =>
      gB1 (gck s v45 12) fun _ =>
      gB2 (f_J27_size κ F v45  s) fun v47 s46 =>
      f_X3_value_231 κ F  v47 s46
  else
  if l1 = (11 : Int32) then
    gB1 (gfI s l0 7 7) fun v49 =>
    f_X3_value_231 κ F  v49 s
  else
  if l1 = (12 : Int32) then
    gB1 (gfI s l0 7 8) fun v50 =>
    f_X3_value_231 κ F  v50 s
  else
  gB1 (gck s l0 7) fun _ =>
  gB2 (f_X3_sumOfValues κ F l0  s) fun v52 s51 =>
  f_X3_value_231 κ F  v52 s51
set_option maxHeartbeats 4000000 in
theorem w_X3_value_0 {E : gE} {F z0 n0 : Nat} {r : Int32} {s' : gS}   : ∀ (l0 : Option Nat) (l1 : Int32)  (s : gS), f_X3_value_0 (gk E) F  l0 l1 s = some (r, s') → W_X3_value E z0 n0 r s' 0 [(0, vR l0), (1, vI l1)] [] s := by
  intro l0 l1 s hB
  unfold f_X3_value_0 at hB
  refine gw_iload_n 1 rfl dX3_value_0 ?_
  by_cases hs0 : l1 = (0 : Int32)
  · rw [if_pos hs0] at hB
    refine gw_tableIn (off := 67) (tgt := 68) (by rw [hs0]; decide) (by rw [hs0]; decide) (by rw [hs0]; rfl) dX3_value_1 (by decide) ?_
    refine gw_aload_n 0 rfl dX3_value_68 ?_
    refine gw_gets (i := 0) (by decide) q279 dX3_value_69 ?_
    obtain ⟨u0, hu3, hB⟩ := gB1_some hB
    obtain ⟨v2, s1, hv2, hB⟩ := gB2_some hB
    refine gw_callV (y := yX3_inState) (lw_V q2096 q2097 q2098 q110 q2099) hdV_X3_inState gcl7 hu3 (As := [vR ((gk E).2 0)]) (rest := []) (m_X3_inState _ _ _ _ _ hv2) (Nat.le_of_ble_eq_true rfl) (Nat.le_of_ble_eq_true rfl) rfl (Nat.le_of_ble_eq_true rfl) dX3_value_72 (gCont_i ?_)
    refine gw_goto (tgt := 231) dX3_value_75 (by decide) ?_
    exact gw_sub [] rfl (w_X3_value_231  _ _ hB)
  rw [if_neg hs0] at hB
  by_cases hs1 : l1 = (1 : Int32)
  · rw [if_pos hs1] at hB
    refine gw_tableIn (off := 77) (tgt := 78) (by rw [hs1]; decide) (by rw [hs1]; decide) (by rw [hs1]; rfl) dX3_value_1 (by decide) ?_
    refine gw_aload_n 0 rfl dX3_value_78 ?_
    refine gw_gets (i := 1) (by decide) q2120 dX3_value_79 ?_
    obtain ⟨u0, hu6, hB⟩ := gB1_some hB
    obtain ⟨v5, s4, hv5, hB⟩ := gB2_some hB
    refine gw_callV (y := yX3_inState) (lw_V q2096 q2097 q2098 q110 q2099) hdV_X3_inState gcl7 hu6 (As := [vR ((gk E).2 1)]) (rest := []) (m_X3_inState _ _ _ _ _ hv5) (Nat.le_of_ble_eq_true rfl) (Nat.le_of_ble_eq_true rfl) rfl (Nat.le_of_ble_eq_true rfl) dX3_value_82 (gCont_i ?_)
    refine gw_goto (tgt := 231) dX3_value_85 (by decide) ?_
    exact gw_sub [] rfl (w_X3_value_231  _ _ hB)
  rw [if_neg hs1] at hB
  by_cases hs2 : l1 = (2 : Int32)
  · rw [if_pos hs2] at hB
    refine gw_tableIn (off := 87) (tgt := 88) (by rw [hs2]; decide) (by rw [hs2]; decide) (by rw [hs2]; rfl) dX3_value_1 (by decide) ?_
    refine gw_aload_n 0 rfl dX3_value_88 ?_
    refine gw_gets (i := 2) (by decide) q1315 dX3_value_89 ?_
    obtain ⟨u0, hu9, hB⟩ := gB1_some hB
    obtain ⟨v8, s7, hv8, hB⟩ := gB2_some hB
    refine gw_callV (y := yX3_inState) (lw_V q2096 q2097 q2098 q110 q2099) hdV_X3_inState gcl7 hu9 (As := [vR ((gk E).2 2)]) (rest := []) (m_X3_inState _ _ _ _ _ hv8) (Nat.le_of_ble_eq_true rfl) (Nat.le_of_ble_eq_true rfl) rfl (Nat.le_of_ble_eq_true rfl) dX3_value_92 (gCont_i ?_)
    refine gw_goto (tgt := 231) dX3_value_95 (by decide) ?_
    exact gw_sub [] rfl (w_X3_value_231  _ _ hB)
  rw [if_neg hs2] at hB
  by_cases hs3 : l1 = (3 : Int32)
  · rw [if_pos hs3] at hB
    refine gw_tableIn (off := 97) (tgt := 98) (by rw [hs3]; decide) (by rw [hs3]; decide) (by rw [hs3]; rfl) dX3_value_1 (by decide) ?_
    refine gw_aload_n 0 rfl dX3_value_98 ?_
    obtain ⟨u0, hu12, hB⟩ := gB1_some hB
    obtain ⟨v11, s10, hv11, hB⟩ := gB2_some hB
    refine gw_callV (y := yX3_diggable) (lw_V q2092 q2093 q2094 q110 q2095) hdV_X3_diggable gcl7 hu12 (As := []) (rest := []) (m_X3_diggable _ _ _ _ hv11) (Nat.le_of_ble_eq_true rfl) (Nat.le_of_ble_eq_true rfl) rfl (Nat.le_of_ble_eq_true rfl) dX3_value_99 (gCont_i ?_)
    refine gw_goto (tgt := 231) dX3_value_102 (by decide) ?_
    exact gw_sub [] rfl (w_X3_value_231  _ _ hB)
  rw [if_neg hs3] at hB
  by_cases hs4 : l1 = (4 : Int32)
  · rw [if_pos hs4] at hB
    refine gw_tableIn (off := 104) (tgt := 105) (by rw [hs4]; decide) (by rw [hs4]; decide) (by rw [hs4]; rfl) dX3_value_1 (by decide) ?_
    refine gw_aload_n 0 rfl dX3_value_105 ?_
    obtain ⟨u0, hu15, hB⟩ := gB1_some hB
    obtain ⟨v14, s13, hv14, hB⟩ := gB2_some hB
    refine gw_callV (y := yX3_needed) (lw_V q1294 q1295 q1296 q110 q1297) hdV_X3_needed gcl7 hu15 (As := []) (rest := []) (m_X3_needed _ _ _ _ hv14) (Nat.le_of_ble_eq_true rfl) (Nat.le_of_ble_eq_true rfl) rfl (Nat.le_of_ble_eq_true rfl) dX3_value_106 (gCont_i ?_)
    refine gw_goto (tgt := 231) dX3_value_109 (by decide) ?_
    exact gw_sub [] rfl (w_X3_value_231  _ _ hB)
  rw [if_neg hs4] at hB
  by_cases hs5 : l1 = (5 : Int32)
  · rw [if_pos hs5] at hB
    refine gw_tableIn (off := 111) (tgt := 112) (by rw [hs5]; decide) (by rw [hs5]; decide) (by rw [hs5]; rfl) dX3_value_1 (by decide) ?_
    refine gw_aload_n 0 rfl dX3_value_112 ?_
    refine gw_aload_n 0 rfl dX3_value_113 ?_
    obtain ⟨u0, hu18, hB⟩ := gB1_some hB
    obtain ⟨v17, s16, hv17, hB⟩ := gB2_some hB
    refine gw_callV (y := yX3_now) (lw_V q1302 q1303 q1304 q110 q1305) hdV_X3_now gcl7 hu18 (As := []) (rest := [vR l0]) (m_X3_now _ _ _ _ hv17) (Nat.le_of_ble_eq_true rfl) (Nat.le_of_ble_eq_true rfl) rfl (Nat.le_of_ble_eq_true rfl) dX3_value_114 (gCont_i ?_)
    obtain ⟨v19, hv19, hB⟩ := gB1_some hB
    refine gw_getfN (C := RX4) (T := TX4) (N := 3) (k := 1) gcl4 (by decide) in_X4 q201 (gfI_spec hv19) dX3_value_117 ?_
    obtain ⟨u0, hu22, hB⟩ := gB1_some hB
    obtain ⟨v21, s20, hv21, hB⟩ := gB2_some hB
    refine gw_callV (y := yX3_entriesBy) (lw_V q2399 q2400 q2401 q110 q2402) hdV_X3_entriesBy gcl7 hu22 (As := [vI v19]) (rest := []) (m_X3_entriesBy _ _ _ _ _ hv21) (Nat.le_of_ble_eq_true rfl) (Nat.le_of_ble_eq_true rfl) rfl (Nat.le_of_ble_eq_true rfl) dX3_value_120 (gCont_i ?_)
    refine gw_goto (tgt := 231) dX3_value_123 (by decide) ?_
    exact gw_sub [] rfl (w_X3_value_231  _ _ hB)
  rw [if_neg hs5] at hB
  by_cases hs6 : l1 = (6 : Int32)
  · rw [if_pos hs6] at hB
    refine gw_tableIn (off := 125) (tgt := 126) (by rw [hs6]; decide) (by rw [hs6]; decide) (by rw [hs6]; rfl) dX3_value_1 (by decide) ?_
    refine gw_aload_n 0 rfl dX3_value_126 ?_
    refine gw_aload_n 0 rfl dX3_value_127 ?_
    obtain ⟨u0, hu25, hB⟩ := gB1_some hB
    obtain ⟨v24, s23, hv24, hB⟩ := gB2_some hB
    refine gw_callV (y := yX3_now) (lw_V q1302 q1303 q1304 q110 q1305) hdV_X3_now gcl7 hu25 (As := []) (rest := [vR l0]) (m_X3_now _ _ _ _ hv24) (Nat.le_of_ble_eq_true rfl) (Nat.le_of_ble_eq_true rfl) rfl (Nat.le_of_ble_eq_true rfl) dX3_value_128 (gCont_i ?_)
    obtain ⟨v26, hv26, hB⟩ := gB1_some hB
    refine gw_getfN (C := RX4) (T := TX4) (N := 3) (k := 1) gcl4 (by decide) in_X4 q201 (gfI_spec hv26) dX3_value_131 ?_
    obtain ⟨u0, hu29, hB⟩ := gB1_some hB
    obtain ⟨v28, s27, hv28, hB⟩ := gB2_some hB
    refine gw_callV (y := yX3_directory) (lw_V q2041 q2043 qs23 q110 q2044) hdV_X3_directory gcl7 hu29 (As := [vI v26]) (rest := []) (m_X3_directory _ _ _ _ _ hv28) (Nat.le_of_ble_eq_true rfl) (Nat.le_of_ble_eq_true rfl) rfl (Nat.le_of_ble_eq_true rfl) dX3_value_134 (gCont_i ?_)
    obtain ⟨u0, hu32, hB⟩ := gB1_some hB
    obtain ⟨v31, s30, hv31, hB⟩ := gB2_some hB
    refine gw_callV (y := yX5_size) (lw_V q2417 q2410 q3132 q117 q2412) hdV_X5_size gcl3 hu32 (As := []) (rest := []) (m_X5_size _ _ _ _ hv31) (Nat.le_of_ble_eq_true rfl) (Nat.le_of_ble_eq_true rfl) rfl (Nat.le_of_ble_eq_true rfl) dX3_value_137 (gCont_i ?_)
    refine gw_goto (tgt := 231) dX3_value_140 (by decide) ?_
    exact gw_sub [] rfl (w_X3_value_231  _ _ hB)
  rw [if_neg hs6] at hB
  by_cases hs7 : l1 = (7 : Int32)
  · rw [if_pos hs7] at hB
    refine gw_tableIn (off := 142) (tgt := 143) (by rw [hs7]; decide) (by rw [hs7]; decide) (by rw [hs7]; rfl) dX3_value_1 (by decide) ?_
    refine gw_aload_n 0 rfl dX3_value_143 ?_
    obtain ⟨u0, hu35, hB⟩ := gB1_some hB
    obtain ⟨v34, s33, hv34, hB⟩ := gB2_some hB
    refine gw_callV (y := yX3_openReaders) (lw_V q2418 q2420 qs42 q110 q2421) hdV_X3_openReaders gcl7 hu35 (As := []) (rest := []) (m_X3_openReaders _ _ _ _ hv34) (Nat.le_of_ble_eq_true rfl) (Nat.le_of_ble_eq_true rfl) rfl (Nat.le_of_ble_eq_true rfl) dX3_value_144 (gCont_i ?_)
    refine gw_goto (tgt := 231) dX3_value_147 (by decide) ?_
    exact gw_sub [] rfl (w_X3_value_231  _ _ hB)
  rw [if_neg hs7] at hB
  by_cases hs8 : l1 = (8 : Int32)
  · rw [if_pos hs8] at hB
    refine gw_tableIn (off := 149) (tgt := 150) (by rw [hs8]; decide) (by rw [hs8]; decide) (by rw [hs8]; rfl) dX3_value_1 (by decide) ?_
    refine gw_aload_n 0 rfl dX3_value_150 ?_
    obtain ⟨v36, hv36, hB⟩ := gB1_some hB
    refine gw_getf (C := RX3) (T := TX3) (N := 9) (k := 6) gcl7 (by decide) in_X3 q289 (gfR_spec hv36) dX3_value_151 ?_
    refine gw_ifnonnull (tgt := 161) dX3_value_154 (by decide) (fun hcnd => ?_) (fun hcnd => ?_)
    · rw [if_neg hcnd] at hB
      refine gw_iconst (v := (1 : Int32)) (by decide) dX3_value_161 ?_
      refine gw_goto (tgt := 231) dX3_value_162 (by decide) ?_
      exact gw_sub [] rfl (w_X3_value_231  _ _ hB)
    · rw [if_pos hcnd] at hB
      refine gw_iconst (v := (0 : Int32)) (by decide) dX3_value_157 ?_
      refine gw_goto (tgt := 231) dX3_value_158 (by decide) ?_
      exact gw_sub [] rfl (w_X3_value_231  _ _ hB)
  rw [if_neg hs8] at hB
  by_cases hs9 : l1 = (9 : Int32)
  · rw [if_pos hs9] at hB
    refine gw_tableIn (off := 164) (tgt := 165) (by rw [hs9]; decide) (by rw [hs9]; decide) (by rw [hs9]; rfl) dX3_value_1 (by decide) ?_
    refine gw_aload_n 0 rfl dX3_value_165 ?_
    obtain ⟨v37, hv37, hB⟩ := gB1_some hB
    refine gw_getf (C := RX3) (T := TX3) (N := 9) (k := 6) gcl7 (by decide) in_X3 q289 (gfR_spec hv37) dX3_value_166 ?_
    refine gw_ifnonnull (tgt := 176) dX3_value_169 (by decide) (fun hcnd => ?_) (fun hcnd => ?_)
    · rw [if_neg hcnd] at hB
      refine gw_aload_n 0 rfl dX3_value_176 ?_
      obtain ⟨v38, hv38, hB⟩ := gB1_some hB
      refine gw_getf (C := RX3) (T := TX3) (N := 9) (k := 6) gcl7 (by decide) in_X3 q289 (gfR_spec hv38) dX3_value_177 ?_
      obtain ⟨v39, hv39, hB⟩ := gB1_some hB
      refine gw_getfN (C := RX7) (T := TX7) (N := 3) (k := 0) gcl6 (by decide) in_X7 q1787 (gfR_spec hv39) dX3_value_180 ?_
      obtain ⟨u0, hu42, hB⟩ := gB1_some hB
      obtain ⟨v41, s40, hv41, hB⟩ := gB2_some hB
      refine gw_callU (C := "java/util/LinkedHashSet") (owner := "java/util/HashSet") (x := ⟨"java/util/LinkedHashSet", "size", "()I"⟩) (y := yJ27_size) (lw_app (lw_in (([Cond.methodLink "PageGarden$Garden" 325 ⟨"java/util/LinkedHashSet", "size", "()I"⟩, Cond.sameMethod "java/util/LinkedHashSet" "java/util/HashSet" "size" "()I", Cond.selects "java/util/LinkedHashSet" ⟨"java/util/LinkedHashSet", "size", "()I"⟩ yJ27_size, Cond.instanceMethod yJ27_size, Cond.initialized "java/util/HashSet"] : List Cond)) [2262, 2248, 2250, 2251, 146] (by decide +kernel) (by decide +kernel)) (lw_meth q2252)) rfl (show _ ∧ _ ∧ _ = some 0 from by decide +kernel) gcl12 hu42 (As := []) (rest := []) (m_J27_size _ _ _ _ hv41) (Nat.le_of_ble_eq_true rfl) (Nat.le_of_ble_eq_true rfl) rfl (Nat.le_of_ble_eq_true rfl) dX3_value_183 (gCont_i ?_)
      refine gw_goto (tgt := 231) dX3_value_186 (by decide) ?_
      exact gw_sub [] rfl (w_X3_value_231  _ _ hB)
    · rw [if_pos hcnd] at hB
      refine gw_iconst (v := (0 : Int32)) (by decide) dX3_value_172 ?_
      refine gw_goto (tgt := 231) dX3_value_173 (by decide) ?_
      exact gw_sub [] rfl (w_X3_value_231  _ _ hB)
  rw [if_neg hs9] at hB
  by_cases hs10 : l1 = (10 : Int32)
  · rw [if_pos hs10] at hB
    refine gw_tableIn (off := 188) (tgt := 189) (by rw [hs10]; decide) (by rw [hs10]; decide) (by rw [hs10]; rfl) dX3_value_1 (by decide) ?_
    refine gw_aload_n 0 rfl dX3_value_189 ?_
    obtain ⟨v43, hv43, hB⟩ := gB1_some hB
    refine gw_getf (C := RX3) (T := TX3) (N := 9) (k := 6) gcl7 (by decide) in_X3 q289 (gfR_spec hv43) dX3_value_190 ?_
    refine gw_ifnonnull (tgt := 200) dX3_value_193 (by decide) (fun hcnd => ?_) (fun hcnd => ?_)
    · rw [if_neg hcnd] at hB
      refine gw_aload_n 0 rfl dX3_value_200 ?_
      obtain ⟨v44, hv44, hB⟩ := gB1_some hB
      refine gw_getf (C := RX3) (T := TX3) (N := 9) (k := 6) gcl7 (by decide) in_X3 q289 (gfR_spec hv44) dX3_value_201 ?_
      obtain ⟨v45, hv45, hB⟩ := gB1_some hB
      refine gw_getfN (C := RX7) (T := TX7) (N := 3) (k := 1) gcl6 (by decide) in_X7 q1789 (gfR_spec hv45) dX3_value_204 ?_
      obtain ⟨u0, hu48, hB⟩ := gB1_some hB
      obtain ⟨v47, s46, hv47, hB⟩ := gB2_some hB
      refine gw_callU (C := "java/util/LinkedHashSet") (owner := "java/util/HashSet") (x := ⟨"java/util/LinkedHashSet", "size", "()I"⟩) (y := yJ27_size) (lw_app (lw_in (([Cond.methodLink "PageGarden$Garden" 325 ⟨"java/util/LinkedHashSet", "size", "()I"⟩, Cond.sameMethod "java/util/LinkedHashSet" "java/util/HashSet" "size" "()I", Cond.selects "java/util/LinkedHashSet" ⟨"java/util/LinkedHashSet", "size", "()I"⟩ yJ27_size, Cond.instanceMethod yJ27_size, Cond.initialized "java/util/HashSet"] : List Cond)) [2262, 2248, 2250, 2251, 146] (by decide +kernel) (by decide +kernel)) (lw_meth q2252)) rfl (show _ ∧ _ ∧ _ = some 0 from by decide +kernel) gcl12 hu48 (As := []) (rest := []) (m_J27_size _ _ _ _ hv47) (Nat.le_of_ble_eq_true rfl) (Nat.le_of_ble_eq_true rfl) rfl (Nat.le_of_ble_eq_true rfl) dX3_value_207 (gCont_i ?_)
      refine gw_goto (tgt := 231) dX3_value_210 (by decide) ?_
      exact gw_sub [] rfl (w_X3_value_231  _ _ hB)
    · rw [if_pos hcnd] at hB
      refine gw_iconst (v := (0 : Int32)) (by decide) dX3_value_196 ?_
      refine gw_goto (tgt := 231) dX3_value_197 (by decide) ?_
      exact gw_sub [] rfl (w_X3_value_231  _ _ hB)
  rw [if_neg hs10] at hB
  by_cases hs11 : l1 = (11 : Int32)
  · rw [if_pos hs11] at hB
    refine gw_tableIn (off := 212) (tgt := 213) (by rw [hs11]; decide) (by rw [hs11]; decide) (by rw [hs11]; rfl) dX3_value_1 (by decide) ?_
    refine gw_aload_n 0 rfl dX3_value_213 ?_
    obtain ⟨v49, hv49, hB⟩ := gB1_some hB
    refine gw_getf (C := RX3) (T := TX3) (N := 9) (k := 7) gcl7 (by decide) in_X3 q291 (gfI_spec hv49) dX3_value_214 ?_
    refine gw_goto (tgt := 231) dX3_value_217 (by decide) ?_
    exact gw_sub [] rfl (w_X3_value_231  _ _ hB)
  rw [if_neg hs11] at hB
  by_cases hs12 : l1 = (12 : Int32)
  · rw [if_pos hs12] at hB
    refine gw_tableIn (off := 219) (tgt := 220) (by rw [hs12]; decide) (by rw [hs12]; decide) (by rw [hs12]; rfl) dX3_value_1 (by decide) ?_
    refine gw_aload_n 0 rfl dX3_value_220 ?_
    obtain ⟨v50, hv50, hB⟩ := gB1_some hB
    refine gw_getf (C := RX3) (T := TX3) (N := 9) (k := 8) gcl7 (by decide) in_X3 q292 (gfI_spec hv50) dX3_value_221 ?_
    refine gw_goto (tgt := 231) dX3_value_224 (by decide) ?_
    exact gw_sub [] rfl (w_X3_value_231  _ _ hB)
  rw [if_neg hs12] at hB
  have ht0 : l1.toInt ≠ 0 := fun e => hs0 (Int32.toInt_inj.mp (e.trans (by decide)))
  have ht1 : l1.toInt ≠ 1 := fun e => hs1 (Int32.toInt_inj.mp (e.trans (by decide)))
  have ht2 : l1.toInt ≠ 2 := fun e => hs2 (Int32.toInt_inj.mp (e.trans (by decide)))
  have ht3 : l1.toInt ≠ 3 := fun e => hs3 (Int32.toInt_inj.mp (e.trans (by decide)))
  have ht4 : l1.toInt ≠ 4 := fun e => hs4 (Int32.toInt_inj.mp (e.trans (by decide)))
  have ht5 : l1.toInt ≠ 5 := fun e => hs5 (Int32.toInt_inj.mp (e.trans (by decide)))
  have ht6 : l1.toInt ≠ 6 := fun e => hs6 (Int32.toInt_inj.mp (e.trans (by decide)))
  have ht7 : l1.toInt ≠ 7 := fun e => hs7 (Int32.toInt_inj.mp (e.trans (by decide)))
  have ht8 : l1.toInt ≠ 8 := fun e => hs8 (Int32.toInt_inj.mp (e.trans (by decide)))
  have ht9 : l1.toInt ≠ 9 := fun e => hs9 (Int32.toInt_inj.mp (e.trans (by decide)))
  have ht10 : l1.toInt ≠ 10 := fun e => hs10 (Int32.toInt_inj.mp (e.trans (by decide)))
  have ht11 : l1.toInt ≠ 11 := fun e => hs11 (Int32.toInt_inj.mp (e.trans (by decide)))
  have ht12 : l1.toInt ≠ 12 := fun e => hs12 (Int32.toInt_inj.mp (e.trans (by decide)))
  refine gw_tableOut (tgt := 227) (by omega) dX3_value_1 (by decide) ?_
  refine gw_aload_n 0 rfl dX3_value_227 ?_
  obtain ⟨u0, hu53, hB⟩ := gB1_some hB
  obtain ⟨v52, s51, hv52, hB⟩ := gB2_some hB
  refine gw_callV (y := yX3_sumOfValues) (lw_V q2422 q2424 qs43 q110 q2425) hdV_X3_sumOfValues gcl7 hu53 (As := []) (rest := []) (m_X3_sumOfValues _ _ _ _ hv52) (Nat.le_of_ble_eq_true rfl) (Nat.le_of_ble_eq_true rfl) rfl (Nat.le_of_ble_eq_true rfl) dX3_value_228 (gCont_i ?_)
  exact gw_sub [] rfl (w_X3_value_231  _ _ hB)
noncomputable def f_X3_value (κ : gK) (F : Nat) (a0 : Option Nat) (a1 : Int32) (s : gS) : Option (Int32 × gS) := f_X3_value_0 κ F a0 a1 s
theorem m_X3_value {E : gE} {F : Nat} (a0 : Option Nat) (a1 : Int32) (s : gS) (r : Int32) (s' : gS) (h : f_X3_value (gk E) F a0 a1 s = some (r, s')) : gCT E 8 yX3_value (ws_ yX3_value cX3_value 2 (some FieldType.int)) [vR a0, vI a1] s (.inl (some (vI r))) s' := by
  refine gCT_of2 (fun h => absurd h (by decide)) (plainFor_of_name (by decide)) (Nat.le_of_ble_eq_true rfl) ?_
  exact gw_sub [0, 1] rfl (w_X3_value_0 _ _ _ h)
def dkwX11_init_1 : List UInt8 := [188, 10, 181, 0, 25, 177]
abbrev dktX11_init_1 : List UInt8 := dkwX11_init_1 ++ []
def dkwX11_init_0 : List UInt8 := [42, 43, 181, 0, 3, 42, 183, 0, 9, 42, 17, 252, 24, 181, 0, 15, 42, 18, 19, 181, 0, 21, 42, 5]
abbrev dktX11_init_0 : List UInt8 := dkwX11_init_0 ++ dktX11_init_1
theorem dksX11_init_0 : cX11_init.data.toList.drop 0 = dktX11_init_0 := by decide +kernel
theorem dksX11_init_1 : cX11_init.data.toList.drop 24 = dktX11_init_1 := dk_seg dksX11_init_0 24 rfl rfl
theorem dX11_init_0 : decode cX11_init 0 = .ok (.aload_n 0, 1) := dk_42 (dk_at dksX11_init_0 0 rfl rfl)
theorem dX11_init_1 : decode cX11_init 1 = .ok (.aload_n 1, 1) := dk_43 (dk_at dksX11_init_0 1 rfl rfl)
theorem dX11_init_2 : decode cX11_init 2 = .ok (.putfield 3, 3) := dk_181 0 3 (dk_at dksX11_init_0 2 rfl rfl)
theorem dX11_init_5 : decode cX11_init 5 = .ok (.aload_n 0, 1) := dk_42 (dk_at dksX11_init_0 5 rfl rfl)
theorem dX11_init_6 : decode cX11_init 6 = .ok (.invokespecial 9, 3) := dk_183 0 9 (dk_at dksX11_init_0 6 rfl rfl)
theorem dX11_init_9 : decode cX11_init 9 = .ok (.aload_n 0, 1) := dk_42 (dk_at dksX11_init_0 9 rfl rfl)
theorem dX11_init_10 : decode cX11_init 10 = .ok (.sipush (-1000), 3) := dk_17 252 24 (dk_at dksX11_init_0 10 rfl rfl)
theorem dX11_init_13 : decode cX11_init 13 = .ok (.putfield 15, 3) := dk_181 0 15 (dk_at dksX11_init_0 13 rfl rfl)
theorem dX11_init_16 : decode cX11_init 16 = .ok (.aload_n 0, 1) := dk_42 (dk_at dksX11_init_0 16 rfl rfl)
theorem dX11_init_17 : decode cX11_init 17 = .ok (.ldc 19, 2) := dk_18 19 (dk_at dksX11_init_0 17 rfl rfl)
theorem dX11_init_19 : decode cX11_init 19 = .ok (.putfield 21, 3) := dk_181 0 21 (dk_at dksX11_init_0 19 rfl rfl)
theorem dX11_init_22 : decode cX11_init 22 = .ok (.aload_n 0, 1) := dk_42 (dk_at dksX11_init_0 22 rfl rfl)
theorem dX11_init_23 : decode cX11_init 23 = .ok (.iconst 2, 1) := dk_5 (dk_at dksX11_init_0 23 rfl rfl)
theorem dX11_init_24 : decode cX11_init 24 = .ok (.newarray .int, 2) := dk_188_10 (dk_at dksX11_init_1 0 rfl rfl)
theorem dX11_init_26 : decode cX11_init 26 = .ok (.putfield 25, 3) := dk_181 0 25 (dk_at dksX11_init_1 2 rfl rfl)
theorem dX11_init_29 : decode cX11_init 29 = .ok (.return_, 1) := dk_177 (dk_at dksX11_init_1 5 rfl rfl)
/-! PageGarden$Text.<init>(LPageGarden;)V -/
abbrev M_X11_init (z0 n0 : Nat) (s' : gS) : gM := (RX11, cX11_init, 2, none, "<init>", [], 1, z0, n0, s'.2.1, s'.2.2)
abbrev W_X11_init (E : gE) (z0 n0 : Nat) (r : Unit) (s' : gS) (pc : Nat) (L : List (Nat × gV)) (st : List gV) (s : gS) : Prop := gW E (M_X11_init z0 n0 s') (gQm E (M_X11_init z0 n0 s') (.inl none) s') pc L st s
noncomputable def f_X11_init_0 (κ : gK) (F : Nat)  (l0 : Option Nat) (l1 : Option Nat) (s : gS) : Option (Unit × gS) :=
  gB1 (gpf κ s l0 8 4 (va_rf l1)) fun s1 =>
  gB1 (gsm l0) fun _ =>
  gB1 (gpf κ s1 l0 8 1 (.int (-1000 : Int32))) fun s3 =>
  gB1 (gpf κ s3 l0 8 2 (va_rf (κ.2 37))) fun s4 =>
  gB2 (gna s4 0 (2 : Int32)) fun v5 s6 =>
  gB1 (gpf κ s6 l0 8 3 (va_rf v5)) fun s7 =>
  some ((), s7)
set_option maxHeartbeats 4000000 in
theorem w_X11_init_0 {E : gE} {F z0 n0 : Nat} {r : Unit} {s' : gS}   : ∀ (l0 : Option Nat) (l1 : Option Nat)  (s : gS), f_X11_init_0 (gk E) F  l0 l1 s = some (r, s') → W_X11_init E z0 n0 r s' 0 [(0, vR l0), (1, vR l1)] [] s := by
  intro l0 l1 s hB
  unfold f_X11_init_0 at hB
  refine gw_aload_n 0 rfl dX11_init_0 ?_
  refine gw_aload_n 1 rfl dX11_init_1 ?_
  obtain ⟨s1, hs1, hB⟩ := gB1_some hB
  refine gw_putfF (C := RX11) (T := TX11) (N := 5) (k := 4) tyX11 tyX11_ok nmX11 gcl8 (by decide) in_X11 q1337 rfl rfl rfl (tyX11_ok 4 (by decide)) (gNF_o _ _) hs1 dX11_init_2 ?_
  refine gw_aload_n 0 rfl dX11_init_5 ?_
  obtain ⟨u0, hu2, hB⟩ := gB1_some hB
  refine gw_objInit (gsm_spec hu2) q1330 q172 q173 (Nat.le_of_ble_eq_true rfl) (Nat.le_of_ble_eq_true rfl) dX11_init_6 ?_
  refine gw_aload_n 0 rfl dX11_init_9 ?_
  refine gw_sipush (v := (-1000 : Int32)) (by decide) dX11_init_10 ?_
  obtain ⟨s3, hs3, hB⟩ := gB1_some hB
  refine gw_putf (C := RX11) (T := TX11) (N := 5) (k := 1) tyX11 tyX11_ok nmX11 gcl8 (by decide) in_X11 q1333 rfl (tyX11_ok 1 (by decide)) (gNF_i _) hs3 dX11_init_13 ?_
  refine gw_aload_n 0 rfl dX11_init_16 ?_
  refine gw_ldcS (own := "PageGarden$Text") (tx := "") (i := 37) rfl (by decide) dX11_init_17 ?_
  obtain ⟨s4, hs4, hB⟩ := gB1_some hB
  refine gw_putf (C := RX11) (T := TX11) (N := 5) (k := 2) tyX11 tyX11_ok nmX11 gcl8 (by decide) in_X11 q1335 rfl (tyX11_ok 2 (by decide)) (gNF_o _ _) hs4 dX11_init_19 ?_
  refine gw_aload_n 0 rfl dX11_init_22 ?_
  refine gw_iconst (v := (2 : Int32)) (by decide) dX11_init_23 ?_
  obtain ⟨v5, s6, hv5, hB⟩ := gB2_some hB
  refine gw_newarr (atype := .int) (t := 0) rfl rfl rfl (by decide) rfl q211 hv5 dX11_init_24 ?_
  obtain ⟨s7, hs7, hB⟩ := gB1_some hB
  refine gw_putfF (C := RX11) (T := TX11) (N := 5) (k := 3) tyX11 tyX11_ok nmX11 gcl8 (by decide) in_X11 q1336 rfl rfl rfl (tyX11_ok 3 (by decide)) (gNF_a _ _) hs7 dX11_init_26 ?_
  obtain ⟨rfl, rfl⟩ := Prod.mk.inj (Option.some.inj hB)
  exact gw_vret rfl rfl rfl dX11_init_29
noncomputable def f_X11_init (κ : gK) (F : Nat) (a0 : Option Nat) (a1 : Option Nat) (s : gS) : Option (Unit × gS) := f_X11_init_0 κ F a0 a1 s
theorem m_X11_init {E : gE} {F : Nat} (a0 : Option Nat) (a1 : Option Nat) (s : gS) (r : Unit) (s' : gS) (h : f_X11_init (gk E) F a0 a1 s = some (r, s')) : gCT E 1 yX11_init (ws_ yX11_init cX11_init 2 none) [vR a0, vR a1] s (.inl none) s' := by
  refine gCT_of2 (fun h => absurd h (by decide)) (plainFor_of_name (by decide)) (Nat.le_of_ble_eq_true rfl) ?_
  exact gw_sub [0, 1] rfl (w_X11_init_0 _ _ _ h)
def dkwX11_isAt_1 : List UInt8 := [180, 0, 29, 51, 133, 27, 133, 28, 133, 184, 0, 39, 153, 0, 7, 4, 167, 0, 4, 3, 172]
abbrev dktX11_isAt_1 : List UInt8 := dkwX11_isAt_1 ++ []
def dkwX11_isAt_0 : List UInt8 := [42, 180, 0, 29, 42, 180, 0, 3, 180, 0, 32, 162, 0, 30, 42, 180, 0, 3, 180, 0, 35, 42]
abbrev dktX11_isAt_0 : List UInt8 := dkwX11_isAt_0 ++ dktX11_isAt_1
theorem dksX11_isAt_0 : cX11_isAt.data.toList.drop 0 = dktX11_isAt_0 := by decide +kernel
theorem dksX11_isAt_1 : cX11_isAt.data.toList.drop 22 = dktX11_isAt_1 := dk_seg dksX11_isAt_0 22 rfl rfl
theorem dX11_isAt_0 : decode cX11_isAt 0 = .ok (.aload_n 0, 1) := dk_42 (dk_at dksX11_isAt_0 0 rfl rfl)
theorem dX11_isAt_1 : decode cX11_isAt 1 = .ok (.getfield 29, 3) := dk_180 0 29 (dk_at dksX11_isAt_0 1 rfl rfl)
theorem dX11_isAt_4 : decode cX11_isAt 4 = .ok (.aload_n 0, 1) := dk_42 (dk_at dksX11_isAt_0 4 rfl rfl)
theorem dX11_isAt_5 : decode cX11_isAt 5 = .ok (.getfield 3, 3) := dk_180 0 3 (dk_at dksX11_isAt_0 5 rfl rfl)
theorem dX11_isAt_8 : decode cX11_isAt 8 = .ok (.getfield 32, 3) := dk_180 0 32 (dk_at dksX11_isAt_0 8 rfl rfl)
theorem dX11_isAt_11 : decode cX11_isAt 11 = .ok (.if_icmp .ge 30, 3) := dk_162 0 30 (dk_at dksX11_isAt_0 11 rfl rfl)
theorem dX11_isAt_14 : decode cX11_isAt 14 = .ok (.aload_n 0, 1) := dk_42 (dk_at dksX11_isAt_0 14 rfl rfl)
theorem dX11_isAt_15 : decode cX11_isAt 15 = .ok (.getfield 3, 3) := dk_180 0 3 (dk_at dksX11_isAt_0 15 rfl rfl)
theorem dX11_isAt_18 : decode cX11_isAt 18 = .ok (.getfield 35, 3) := dk_180 0 35 (dk_at dksX11_isAt_0 18 rfl rfl)
theorem dX11_isAt_21 : decode cX11_isAt 21 = .ok (.aload_n 0, 1) := dk_42 (dk_at dksX11_isAt_0 21 rfl rfl)
theorem dX11_isAt_22 : decode cX11_isAt 22 = .ok (.getfield 29, 3) := dk_180 0 29 (dk_at dksX11_isAt_1 0 rfl rfl)
theorem dX11_isAt_25 : decode cX11_isAt 25 = .ok (.baload, 1) := dk_51 (dk_at dksX11_isAt_1 3 rfl rfl)
theorem dX11_isAt_26 : decode cX11_isAt 26 = .ok (.i2l, 1) := dk_133 (dk_at dksX11_isAt_1 4 rfl rfl)
theorem dX11_isAt_27 : decode cX11_isAt 27 = .ok (.iload_n 1, 1) := dk_27 (dk_at dksX11_isAt_1 5 rfl rfl)
theorem dX11_isAt_28 : decode cX11_isAt 28 = .ok (.i2l, 1) := dk_133 (dk_at dksX11_isAt_1 6 rfl rfl)
theorem dX11_isAt_29 : decode cX11_isAt 29 = .ok (.iload_n 2, 1) := dk_28 (dk_at dksX11_isAt_1 7 rfl rfl)
theorem dX11_isAt_30 : decode cX11_isAt 30 = .ok (.i2l, 1) := dk_133 (dk_at dksX11_isAt_1 8 rfl rfl)
theorem dX11_isAt_31 : decode cX11_isAt 31 = .ok (.invokestatic 39, 3) := dk_184 0 39 (dk_at dksX11_isAt_1 9 rfl rfl)
theorem dX11_isAt_34 : decode cX11_isAt 34 = .ok (.ifCond .eq 7, 3) := dk_153 0 7 (dk_at dksX11_isAt_1 12 rfl rfl)
theorem dX11_isAt_37 : decode cX11_isAt 37 = .ok (.iconst 1, 1) := dk_4 (dk_at dksX11_isAt_1 15 rfl rfl)
theorem dX11_isAt_38 : decode cX11_isAt 38 = .ok (.goto 4, 3) := dk_167 0 4 (dk_at dksX11_isAt_1 16 rfl rfl)
theorem dX11_isAt_41 : decode cX11_isAt 41 = .ok (.iconst 0, 1) := dk_3 (dk_at dksX11_isAt_1 19 rfl rfl)
theorem dX11_isAt_42 : decode cX11_isAt 42 = .ok (.ireturn, 1) := dk_172 (dk_at dksX11_isAt_1 20 rfl rfl)
/-! PageGarden$Text.isAt(II)Z -/
abbrev M_X11_isAt (z0 n0 : Nat) (s' : gS) : gM := (RX11, cX11_isAt, 3, (some FieldType.boolean), "isAt", [], 2, z0, n0, s'.2.1, s'.2.2)
abbrev W_X11_isAt (E : gE) (z0 n0 : Nat) (r : Int32) (s' : gS) (pc : Nat) (L : List (Nat × gV)) (st : List gV) (s : gS) : Prop := gW E (M_X11_isAt z0 n0 s') (gQm E (M_X11_isAt z0 n0 s') (.inl (some (vI r))) s') pc L st s
noncomputable def f_X11_isAt_42 (κ : gK) (F : Nat)  (t0 : Int32) (s : gS) : Option (Int32 × gS) :=
  gB1 (gok .boolean t0) fun _ => some (t0, s)
set_option maxHeartbeats 4000000 in
theorem w_X11_isAt_42 {E : gE} {F z0 n0 : Nat} {r : Int32} {s' : gS}   : ∀  (t0 : Int32) (s : gS), f_X11_isAt_42 (gk E) F  t0 s = some (r, s') → W_X11_isAt E z0 n0 r s' 42 [] [vI t0] s := by
  intro t0 s hB
  unfold f_X11_isAt_42 at hB
  obtain ⟨u, hu, hB⟩ := gB1_some hB
  obtain ⟨rfl, rfl⟩ := Prod.mk.inj (Option.some.inj hB)
  exact gw_zret rfl hu rfl rfl dX11_isAt_42
noncomputable def f_X11_isAt_41 (κ : gK) (F : Nat)   (s : gS) : Option (Int32 × gS) :=
  f_X11_isAt_42 κ F  (0 : Int32) s
set_option maxHeartbeats 4000000 in
theorem w_X11_isAt_41 {E : gE} {F z0 n0 : Nat} {r : Int32} {s' : gS}   : ∀   (s : gS), f_X11_isAt_41 (gk E) F   s = some (r, s') → W_X11_isAt E z0 n0 r s' 41 [] [] s := by
  intro  s hB
  unfold f_X11_isAt_41 at hB
  refine gw_iconst (v := (0 : Int32)) (by decide) dX11_isAt_41 ?_
  exact gw_sub [] rfl (w_X11_isAt_42  _ _ hB)
noncomputable def f_X11_isAt_0 (κ : gK) (F : Nat)  (l0 : Option Nat) (l1 : Int32) (l2 : Int32) (s : gS) : Option (Int32 × gS) :=
  gB1 (gfI s l0 8 0) fun v1 =>
  gB1 (gfR s l0 8 4) fun v2 =>
  gB1 (gfI s v2 0 3) fun v3 =>
  if v3 ≤ v1 then
    f_X11_isAt_41 κ F  s
  else
    gB1 (gfR s l0 8 4) fun v4 =>
    gB1 (gfR s v4 0 2) fun v5 =>
    gB1 (gfI s l0 8 0) fun v6 =>
    gB1 (gaI s v5 2 v6) fun v7 =>
    gB2 (f_X1_inRange κ F (v7.toInt64) (l1.toInt64) (l2.toInt64) s) fun v9 s8 =>
    if v9 = 0 then
      f_X11_isAt_41 κ F  s8
    else
      f_X11_isAt_42 κ F  (1 : Int32) s8
set_option maxHeartbeats 4000000 in
theorem w_X11_isAt_0 {E : gE} {F z0 n0 : Nat} {r : Int32} {s' : gS}   : ∀ (l0 : Option Nat) (l1 : Int32) (l2 : Int32)  (s : gS), f_X11_isAt_0 (gk E) F  l0 l1 l2 s = some (r, s') → W_X11_isAt E z0 n0 r s' 0 [(0, vR l0), (1, vI l1), (2, vI l2)] [] s := by
  intro l0 l1 l2 s hB
  unfold f_X11_isAt_0 at hB
  refine gw_aload_n 0 rfl dX11_isAt_0 ?_
  obtain ⟨v1, hv1, hB⟩ := gB1_some hB
  refine gw_getf (C := RX11) (T := TX11) (N := 5) (k := 0) gcl8 (by decide) in_X11 q1332 (gfI_spec hv1) dX11_isAt_1 ?_
  refine gw_aload_n 0 rfl dX11_isAt_4 ?_
  obtain ⟨v2, hv2, hB⟩ := gB1_some hB
  refine gw_getf (C := RX11) (T := TX11) (N := 5) (k := 4) gcl8 (by decide) in_X11 q1337 (gfR_spec hv2) dX11_isAt_5 ?_
  obtain ⟨v3, hv3, hB⟩ := gB1_some hB
  refine gw_getfN (C := RX1) (T := TX1) (N := 4) (k := 3) gcl0 (by decide) in_X1 q1275 (gfI_spec hv3) dX11_isAt_8 ?_
  refine gw_icmp_ge (tgt := 41) dX11_isAt_11 (by decide) (fun hcnd => ?_) (fun hcnd => ?_)
  · rw [if_pos hcnd] at hB
    exact gw_sub [] rfl (w_X11_isAt_41   _ hB)
  · rw [if_neg hcnd] at hB
    refine gw_aload_n 0 rfl dX11_isAt_14 ?_
    obtain ⟨v4, hv4, hB⟩ := gB1_some hB
    refine gw_getf (C := RX11) (T := TX11) (N := 5) (k := 4) gcl8 (by decide) in_X11 q1337 (gfR_spec hv4) dX11_isAt_15 ?_
    obtain ⟨v5, hv5, hB⟩ := gB1_some hB
    refine gw_getfN (C := RX1) (T := TX1) (N := 4) (k := 2) gcl0 (by decide) in_X1 q1273 (gfR_spec hv5) dX11_isAt_18 ?_
    refine gw_aload_n 0 rfl dX11_isAt_21 ?_
    obtain ⟨v6, hv6, hB⟩ := gB1_some hB
    refine gw_getf (C := RX11) (T := TX11) (N := 5) (k := 0) gcl8 (by decide) in_X11 q1332 (gfI_spec hv6) dX11_isAt_22 ?_
    obtain ⟨v7, hv7, hB⟩ := gB1_some hB
    refine gw_baload hv7 dX11_isAt_25 ?_
    refine gw_i2l dX11_isAt_26 ?_
    refine gw_iload_n 1 rfl dX11_isAt_27 ?_
    refine gw_i2l dX11_isAt_28 ?_
    refine gw_iload_n 2 rfl dX11_isAt_29 ?_
    refine gw_i2l dX11_isAt_30 ?_
    obtain ⟨v9, s8, hv9, hB⟩ := gB2_some hB
    refine gw_callSN (y := yX1_inRange) (lw_meth q1363) q108 q1361 q1362 hdS_X1_inRange (As := [vJ (v7.toInt64), vJ (l1.toInt64), vJ (l2.toInt64)]) (rest := []) (m_X1_inRange _ _ _ _ _ _ hv9) (Nat.le_of_ble_eq_true rfl) (Nat.le_of_ble_eq_true rfl) rfl (Nat.le_of_ble_eq_true rfl) dX11_isAt_31 (gCont_i ?_)
    refine gw_if_eq (tgt := 41) dX11_isAt_34 (by decide) (fun hcnd => ?_) (fun hcnd => ?_)
    · rw [if_pos hcnd] at hB
      exact gw_sub [] rfl (w_X11_isAt_41   _ hB)
    · rw [if_neg hcnd] at hB
      refine gw_iconst (v := (1 : Int32)) (by decide) dX11_isAt_37 ?_
      refine gw_goto (tgt := 42) dX11_isAt_38 (by decide) ?_
      exact gw_sub [] rfl (w_X11_isAt_42  _ _ hB)
noncomputable def f_X11_isAt (κ : gK) (F : Nat) (a0 : Option Nat) (a1 : Int32) (a2 : Int32) (s : gS) : Option (Int32 × gS) := f_X11_isAt_0 κ F a0 a1 a2 s
theorem m_X11_isAt {E : gE} {F : Nat} (a0 : Option Nat) (a1 : Int32) (a2 : Int32) (s : gS) (r : Int32) (s' : gS) (h : f_X11_isAt (gk E) F a0 a1 a2 s = some (r, s')) : gCT E 2 yX11_isAt (ws_ yX11_isAt cX11_isAt 3 (some FieldType.boolean)) [vR a0, vI a1, vI a2] s (.inl (some (vI r))) s' := by
  refine gCT_of2 (fun h => absurd h (by decide)) (plainFor_of_name (by decide)) (Nat.le_of_ble_eq_true rfl) ?_
  exact gw_sub [0, 1, 2] rfl (w_X11_isAt_0 _ _ _ _ h)
def dkwX11_spaces_1 : List UInt8 := [181, 0, 29, 167, 255, 235, 42, 180, 0, 29, 27, 164, 0, 7, 4, 167, 0, 4, 3, 172]
abbrev dktX11_spaces_1 : List UInt8 := dkwX11_spaces_1 ++ []
def dkwX11_spaces_0 : List UInt8 := [42, 180, 0, 29, 60, 42, 16, 32, 16, 32, 182, 0, 43, 153, 0, 16, 42, 89, 180, 0, 29, 4, 96]
abbrev dktX11_spaces_0 : List UInt8 := dkwX11_spaces_0 ++ dktX11_spaces_1
theorem dksX11_spaces_0 : cX11_spaces.data.toList.drop 0 = dktX11_spaces_0 := by decide +kernel
theorem dksX11_spaces_1 : cX11_spaces.data.toList.drop 23 = dktX11_spaces_1 := dk_seg dksX11_spaces_0 23 rfl rfl
theorem dX11_spaces_0 : decode cX11_spaces 0 = .ok (.aload_n 0, 1) := dk_42 (dk_at dksX11_spaces_0 0 rfl rfl)
theorem dX11_spaces_1 : decode cX11_spaces 1 = .ok (.getfield 29, 3) := dk_180 0 29 (dk_at dksX11_spaces_0 1 rfl rfl)
theorem dX11_spaces_4 : decode cX11_spaces 4 = .ok (.istore_n 1, 1) := dk_60 (dk_at dksX11_spaces_0 4 rfl rfl)
theorem dX11_spaces_5 : decode cX11_spaces 5 = .ok (.aload_n 0, 1) := dk_42 (dk_at dksX11_spaces_0 5 rfl rfl)
theorem dX11_spaces_6 : decode cX11_spaces 6 = .ok (.bipush 32, 2) := dk_16 32 (dk_at dksX11_spaces_0 6 rfl rfl)
theorem dX11_spaces_8 : decode cX11_spaces 8 = .ok (.bipush 32, 2) := dk_16 32 (dk_at dksX11_spaces_0 8 rfl rfl)
theorem dX11_spaces_10 : decode cX11_spaces 10 = .ok (.invokevirtual 43, 3) := dk_182 0 43 (dk_at dksX11_spaces_0 10 rfl rfl)
theorem dX11_spaces_13 : decode cX11_spaces 13 = .ok (.ifCond .eq 16, 3) := dk_153 0 16 (dk_at dksX11_spaces_0 13 rfl rfl)
theorem dX11_spaces_16 : decode cX11_spaces 16 = .ok (.aload_n 0, 1) := dk_42 (dk_at dksX11_spaces_0 16 rfl rfl)
theorem dX11_spaces_17 : decode cX11_spaces 17 = .ok (.dup, 1) := dk_89 (dk_at dksX11_spaces_0 17 rfl rfl)
theorem dX11_spaces_18 : decode cX11_spaces 18 = .ok (.getfield 29, 3) := dk_180 0 29 (dk_at dksX11_spaces_0 18 rfl rfl)
theorem dX11_spaces_21 : decode cX11_spaces 21 = .ok (.iconst 1, 1) := dk_4 (dk_at dksX11_spaces_0 21 rfl rfl)
theorem dX11_spaces_22 : decode cX11_spaces 22 = .ok (.iadd, 1) := dk_96 (dk_at dksX11_spaces_0 22 rfl rfl)
theorem dX11_spaces_23 : decode cX11_spaces 23 = .ok (.putfield 29, 3) := dk_181 0 29 (dk_at dksX11_spaces_1 0 rfl rfl)
theorem dX11_spaces_26 : decode cX11_spaces 26 = .ok (.goto (-21), 3) := dk_167 255 235 (dk_at dksX11_spaces_1 3 rfl rfl)
theorem dX11_spaces_29 : decode cX11_spaces 29 = .ok (.aload_n 0, 1) := dk_42 (dk_at dksX11_spaces_1 6 rfl rfl)
theorem dX11_spaces_30 : decode cX11_spaces 30 = .ok (.getfield 29, 3) := dk_180 0 29 (dk_at dksX11_spaces_1 7 rfl rfl)
theorem dX11_spaces_33 : decode cX11_spaces 33 = .ok (.iload_n 1, 1) := dk_27 (dk_at dksX11_spaces_1 10 rfl rfl)
theorem dX11_spaces_34 : decode cX11_spaces 34 = .ok (.if_icmp .le 7, 3) := dk_164 0 7 (dk_at dksX11_spaces_1 11 rfl rfl)
theorem dX11_spaces_37 : decode cX11_spaces 37 = .ok (.iconst 1, 1) := dk_4 (dk_at dksX11_spaces_1 14 rfl rfl)
theorem dX11_spaces_38 : decode cX11_spaces 38 = .ok (.goto 4, 3) := dk_167 0 4 (dk_at dksX11_spaces_1 15 rfl rfl)
theorem dX11_spaces_41 : decode cX11_spaces 41 = .ok (.iconst 0, 1) := dk_3 (dk_at dksX11_spaces_1 18 rfl rfl)
theorem dX11_spaces_42 : decode cX11_spaces 42 = .ok (.ireturn, 1) := dk_172 (dk_at dksX11_spaces_1 19 rfl rfl)
/-! PageGarden$Text.spaces()Z -/
abbrev M_X11_spaces (z0 n0 : Nat) (s' : gS) : gM := (RX11, cX11_spaces, 2, (some FieldType.boolean), "spaces", [], 3, z0, n0, s'.2.1, s'.2.2)
abbrev W_X11_spaces (E : gE) (z0 n0 : Nat) (r : Int32) (s' : gS) (pc : Nat) (L : List (Nat × gV)) (st : List gV) (s : gS) : Prop := gW E (M_X11_spaces z0 n0 s') (gQm E (M_X11_spaces z0 n0 s') (.inl (some (vI r))) s') pc L st s
noncomputable def f_X11_spaces_42 (κ : gK) (F : Nat)  (t0 : Int32) (s : gS) : Option (Int32 × gS) :=
  gB1 (gok .boolean t0) fun _ => some (t0, s)
set_option maxHeartbeats 4000000 in
theorem w_X11_spaces_42 {E : gE} {F z0 n0 : Nat} {r : Int32} {s' : gS}   : ∀  (t0 : Int32) (s : gS), f_X11_spaces_42 (gk E) F  t0 s = some (r, s') → W_X11_spaces E z0 n0 r s' 42 [] [vI t0] s := by
  intro t0 s hB
  unfold f_X11_spaces_42 at hB
  obtain ⟨u, hu, hB⟩ := gB1_some hB
  obtain ⟨rfl, rfl⟩ := Prod.mk.inj (Option.some.inj hB)
  exact gw_zret rfl hu rfl rfl dX11_spaces_42
noncomputable def f_X11_spaces_5b (κ : gK) (F : Nat) (k5 : Option Nat → Int32 → gS → Option (Int32 × gS)) (l0 : Option Nat) (l1 : Int32) (s : gS) : Option (Int32 × gS) :=
  gB1 (gck s l0 8) fun _ =>
  gB2 (f_X11_isAt κ F l0 (32 : Int32) (32 : Int32) s) fun v2 s1 =>
  if v2 = 0 then
    gB1 (gfI s1 l0 8 0) fun v4 =>
    if v4 ≤ l1 then
      f_X11_spaces_42 κ F  (0 : Int32) s1
    else
      f_X11_spaces_42 κ F  (1 : Int32) s1
  else
    gB1 (gfI s1 l0 8 0) fun v5 =>
    gB1 (gpf κ s1 l0 8 0 (.int (v5 + (1 : Int32)))) fun s6 =>
    k5 l0 l1 s6
noncomputable def f_X11_spaces_5 (κ : gK) (F : Nat)  : Nat → Option Nat → Int32 → gS → Option (Int32 × gS)
  | 0 => fun _ _ _ => none
  | n + 1 => f_X11_spaces_5b κ F  (f_X11_spaces_5 κ F  n)
set_option maxHeartbeats 4000000 in
theorem w_X11_spaces_5b {E : gE} {F z0 n0 : Nat} {r : Int32} {s' : gS} {k5 : Option Nat → Int32 → gS → Option (Int32 × gS)} (hk5 : ∀ (l0 : Option Nat) (l1 : Int32) (s : gS), k5 l0 l1 s = some (r, s') → W_X11_spaces E z0 n0 r s' 5 [(0, vR l0), (1, vI l1)] [] s) : ∀ (l0 : Option Nat) (l1 : Int32)  (s : gS), f_X11_spaces_5b (gk E) F k5 l0 l1 s = some (r, s') → W_X11_spaces E z0 n0 r s' 5 [(0, vR l0), (1, vI l1)] [] s := by
  intro l0 l1 s hB
  unfold f_X11_spaces_5b at hB
  refine gw_aload_n 0 rfl dX11_spaces_5 ?_
  refine gw_bipush (v := (32 : Int32)) (by decide) dX11_spaces_6 ?_
  refine gw_bipush (v := (32 : Int32)) (by decide) dX11_spaces_8 ?_
  obtain ⟨u0, hu3, hB⟩ := gB1_some hB
  obtain ⟨v2, s1, hv2, hB⟩ := gB2_some hB
  refine gw_callV (y := yX11_isAt) (lw_V q1357 q1359 qs6 q165 q1360) hdV_X11_isAt gcl8 hu3 (As := [vI (32 : Int32), vI (32 : Int32)]) (rest := []) (m_X11_isAt _ _ _ _ _ _ hv2) (Nat.le_of_ble_eq_true rfl) (Nat.le_of_ble_eq_true rfl) rfl (Nat.le_of_ble_eq_true rfl) dX11_spaces_10 (gCont_i ?_)
  refine gw_if_eq (tgt := 29) dX11_spaces_13 (by decide) (fun hcnd => ?_) (fun hcnd => ?_)
  · rw [if_pos hcnd] at hB
    refine gw_aload_n 0 rfl dX11_spaces_29 ?_
    obtain ⟨v4, hv4, hB⟩ := gB1_some hB
    refine gw_getf (C := RX11) (T := TX11) (N := 5) (k := 0) gcl8 (by decide) in_X11 q1332 (gfI_spec hv4) dX11_spaces_30 ?_
    refine gw_iload_n 1 rfl dX11_spaces_33 ?_
    refine gw_icmp_le (tgt := 41) dX11_spaces_34 (by decide) (fun hcnd => ?_) (fun hcnd => ?_)
    · rw [if_pos hcnd] at hB
      refine gw_iconst (v := (0 : Int32)) (by decide) dX11_spaces_41 ?_
      exact gw_sub [] rfl (w_X11_spaces_42  _ _ hB)
    · rw [if_neg hcnd] at hB
      refine gw_iconst (v := (1 : Int32)) (by decide) dX11_spaces_37 ?_
      refine gw_goto (tgt := 42) dX11_spaces_38 (by decide) ?_
      exact gw_sub [] rfl (w_X11_spaces_42  _ _ hB)
  · rw [if_neg hcnd] at hB
    refine gw_aload_n 0 rfl dX11_spaces_16 ?_
    refine gw_dup rfl dX11_spaces_17 ?_
    obtain ⟨v5, hv5, hB⟩ := gB1_some hB
    refine gw_getf (C := RX11) (T := TX11) (N := 5) (k := 0) gcl8 (by decide) in_X11 q1332 (gfI_spec hv5) dX11_spaces_18 ?_
    refine gw_iconst (v := (1 : Int32)) (by decide) dX11_spaces_21 ?_
    refine gw_iadd dX11_spaces_22 ?_
    obtain ⟨s6, hs6, hB⟩ := gB1_some hB
    refine gw_putf (C := RX11) (T := TX11) (N := 5) (k := 0) tyX11 tyX11_ok nmX11 gcl8 (by decide) in_X11 q1332 rfl (tyX11_ok 0 (by decide)) (gNF_i _) hs6 dX11_spaces_23 ?_
    refine gw_goto (tgt := 5) dX11_spaces_26 (by decide) ?_
    exact gw_sub [0, 1] rfl (hk5 _ _ _ hB)
theorem w_X11_spaces_5 {E : gE} {F z0 n0 : Nat} {r : Int32} {s' : gS}   : ∀ (n : Nat) (l0 : Option Nat) (l1 : Int32)  (s : gS), f_X11_spaces_5 (gk E) F  n l0 l1 s = some (r, s') → W_X11_spaces E z0 n0 r s' 5 [(0, vR l0), (1, vI l1)] [] s := by
  intro n
  induction n with
  | zero => intro l0 l1 s hB; cases hB
  | succ n ih => intro l0 l1 s hB; exact w_X11_spaces_5b ih l0 l1 s hB
noncomputable def f_X11_spaces_0 (κ : gK) (F : Nat)  (l0 : Option Nat) (s : gS) : Option (Int32 × gS) :=
  gB1 (gfI s l0 8 0) fun v1 =>
  f_X11_spaces_5 κ F  F l0 v1 s
set_option maxHeartbeats 4000000 in
theorem w_X11_spaces_0 {E : gE} {F z0 n0 : Nat} {r : Int32} {s' : gS}   : ∀ (l0 : Option Nat)  (s : gS), f_X11_spaces_0 (gk E) F  l0 s = some (r, s') → W_X11_spaces E z0 n0 r s' 0 [(0, vR l0)] [] s := by
  intro l0 s hB
  unfold f_X11_spaces_0 at hB
  refine gw_aload_n 0 rfl dX11_spaces_0 ?_
  obtain ⟨v1, hv1, hB⟩ := gB1_some hB
  refine gw_getf (C := RX11) (T := TX11) (N := 5) (k := 0) gcl8 (by decide) in_X11 q1332 (gfI_spec hv1) dX11_spaces_1 ?_
  refine gw_istore_n (L' := [(1, vI v1), (0, vR l0)]) (Nat.le_of_ble_eq_true rfl) rfl dX11_spaces_4 ?_
  exact gw_sub [1, 0] rfl (w_X11_spaces_5  F _ _ _ hB)
noncomputable def f_X11_spaces (κ : gK) (F : Nat) (a0 : Option Nat) (s : gS) : Option (Int32 × gS) := f_X11_spaces_0 κ F a0 s
theorem m_X11_spaces {E : gE} {F : Nat} (a0 : Option Nat) (s : gS) (r : Int32) (s' : gS) (h : f_X11_spaces (gk E) F a0 s = some (r, s')) : gCT E 3 yX11_spaces (ws_ yX11_spaces cX11_spaces 2 (some FieldType.boolean)) [vR a0] s (.inl (some (vI r))) s' := by
  refine gCT_of2 (fun h => absurd h (by decide)) (plainFor_of_name (by decide)) (Nat.le_of_ble_eq_true rfl) ?_
  exact gw_sub [0] rfl (w_X11_spaces_0 _ _ h)
def dkwJ5_canEncode_0 : List UInt8 := [26, 17, 0, 255, 163, 0, 7, 4, 167, 0, 4, 3, 172]
abbrev dktJ5_canEncode_0 : List UInt8 := dkwJ5_canEncode_0 ++ []
theorem dksJ5_canEncode_0 : cJ5_canEncode.data.toList.drop 0 = dktJ5_canEncode_0 := by decide +kernel
theorem dJ5_canEncode_0 : decode cJ5_canEncode 0 = .ok (.iload_n 0, 1) := dk_26 (dk_at dksJ5_canEncode_0 0 rfl rfl)
theorem dJ5_canEncode_1 : decode cJ5_canEncode 1 = .ok (.sipush 255, 3) := dk_17 0 255 (dk_at dksJ5_canEncode_0 1 rfl rfl)
theorem dJ5_canEncode_4 : decode cJ5_canEncode 4 = .ok (.if_icmp .gt 7, 3) := dk_163 0 7 (dk_at dksJ5_canEncode_0 4 rfl rfl)
theorem dJ5_canEncode_7 : decode cJ5_canEncode 7 = .ok (.iconst 1, 1) := dk_4 (dk_at dksJ5_canEncode_0 7 rfl rfl)
theorem dJ5_canEncode_8 : decode cJ5_canEncode 8 = .ok (.goto 4, 3) := dk_167 0 4 (dk_at dksJ5_canEncode_0 8 rfl rfl)
theorem dJ5_canEncode_11 : decode cJ5_canEncode 11 = .ok (.iconst 0, 1) := dk_3 (dk_at dksJ5_canEncode_0 11 rfl rfl)
theorem dJ5_canEncode_12 : decode cJ5_canEncode 12 = .ok (.ireturn, 1) := dk_172 (dk_at dksJ5_canEncode_0 12 rfl rfl)
/-! java/lang/StringLatin1.canEncode(C)Z -/
abbrev M_J5_canEncode (z0 n0 : Nat) (s' : gS) : gM := (RJ5, cJ5_canEncode, 1, (some FieldType.boolean), "canEncode", [], 1, z0, n0, s'.2.1, s'.2.2)
abbrev W_J5_canEncode (E : gE) (z0 n0 : Nat) (r : Int32) (s' : gS) (pc : Nat) (L : List (Nat × gV)) (st : List gV) (s : gS) : Prop := gW E (M_J5_canEncode z0 n0 s') (gQm E (M_J5_canEncode z0 n0 s') (.inl (some (vI r))) s') pc L st s
noncomputable def f_J5_canEncode_12 (κ : gK) (F : Nat)  (t0 : Int32) (s : gS) : Option (Int32 × gS) :=
  gB1 (gok .boolean t0) fun _ => some (t0, s)
set_option maxHeartbeats 4000000 in
theorem w_J5_canEncode_12 {E : gE} {F z0 n0 : Nat} {r : Int32} {s' : gS}   : ∀  (t0 : Int32) (s : gS), f_J5_canEncode_12 (gk E) F  t0 s = some (r, s') → W_J5_canEncode E z0 n0 r s' 12 [] [vI t0] s := by
  intro t0 s hB
  unfold f_J5_canEncode_12 at hB
  obtain ⟨u, hu, hB⟩ := gB1_some hB
  obtain ⟨rfl, rfl⟩ := Prod.mk.inj (Option.some.inj hB)
  exact gw_zret rfl hu rfl rfl dJ5_canEncode_12
noncomputable def f_J5_canEncode_0 (κ : gK) (F : Nat)  (l0 : Int32) (s : gS) : Option (Int32 × gS) :=
  if (255 : Int32) < l0 then
    f_J5_canEncode_12 κ F  (0 : Int32) s
  else
    f_J5_canEncode_12 κ F  (1 : Int32) s
set_option maxHeartbeats 4000000 in
theorem w_J5_canEncode_0 {E : gE} {F z0 n0 : Nat} {r : Int32} {s' : gS}   : ∀ (l0 : Int32)  (s : gS), f_J5_canEncode_0 (gk E) F  l0 s = some (r, s') → W_J5_canEncode E z0 n0 r s' 0 [(0, vI l0)] [] s := by
  intro l0 s hB
  unfold f_J5_canEncode_0 at hB
  refine gw_iload_n 0 rfl dJ5_canEncode_0 ?_
  refine gw_sipush (v := (255 : Int32)) (by decide) dJ5_canEncode_1 ?_
  refine gw_icmp_gt (tgt := 11) dJ5_canEncode_4 (by decide) (fun hcnd => ?_) (fun hcnd => ?_)
  · rw [if_pos hcnd] at hB
    refine gw_iconst (v := (0 : Int32)) (by decide) dJ5_canEncode_11 ?_
    exact gw_sub [] rfl (w_J5_canEncode_12  _ _ hB)
  · rw [if_neg hcnd] at hB
    refine gw_iconst (v := (1 : Int32)) (by decide) dJ5_canEncode_7 ?_
    refine gw_goto (tgt := 12) dJ5_canEncode_8 (by decide) ?_
    exact gw_sub [] rfl (w_J5_canEncode_12  _ _ hB)
noncomputable def f_J5_canEncode (κ : gK) (F : Nat) (a1 : Int32) (s : gS) : Option (Int32 × gS) := f_J5_canEncode_0 κ F a1 s
theorem m_J5_canEncode {E : gE} {F : Nat} (a1 : Int32) (s : gS) (r : Int32) (s' : gS) (h : f_J5_canEncode (gk E) F a1 s = some (r, s')) : gCT E 1 yJ5_canEncode (ws_ yJ5_canEncode cJ5_canEncode 1 (some FieldType.boolean)) [vI a1] s (.inl (some (vI r))) s' := by
  refine gCT_of2 (fun h => absurd h (by decide)) (plainFor_of_name (by decide)) (Nat.le_of_ble_eq_true rfl) ?_
  exact gw_sub [0] rfl (w_J5_canEncode_0 _ _ h)
def dkwJ12_append_3_3 : List UInt8 := [181, 0, 79, 27, 184, 0, 197, 42, 176]
abbrev dktJ12_append_3_3 : List UInt8 := dkwJ12_append_3_3 ++ []
def dkwJ12_append_3_2 : List UInt8 := [182, 0, 83, 153, 0, 7, 42, 182, 0, 195, 42, 180, 0, 15, 42, 89, 180, 0, 79, 90, 4, 96]
abbrev dktJ12_append_3_2 : List UInt8 := dkwJ12_append_3_2 ++ dktJ12_append_3_3
def dkwJ12_append_3_1 : List UInt8 := [42, 180, 0, 15, 42, 89, 180, 0, 79, 90, 4, 96, 181, 0, 79, 27, 145, 84, 167, 0, 33, 42]
abbrev dktJ12_append_3_1 : List UInt8 := dkwJ12_append_3_1 ++ dktJ12_append_3_2
def dkwJ12_append_3_0 : List UInt8 := [42, 42, 180, 0, 79, 4, 96, 182, 0, 100, 42, 182, 0, 83, 153, 0, 31, 27, 184, 0, 191, 153, 0, 24]
abbrev dktJ12_append_3_0 : List UInt8 := dkwJ12_append_3_0 ++ dktJ12_append_3_1
theorem dksJ12_append_3_0 : cJ12_append_3.data.toList.drop 0 = dktJ12_append_3_0 := by decide +kernel
theorem dksJ12_append_3_1 : cJ12_append_3.data.toList.drop 24 = dktJ12_append_3_1 := dk_seg dksJ12_append_3_0 24 rfl rfl
theorem dksJ12_append_3_2 : cJ12_append_3.data.toList.drop 46 = dktJ12_append_3_2 := dk_seg dksJ12_append_3_1 22 rfl rfl
theorem dksJ12_append_3_3 : cJ12_append_3.data.toList.drop 68 = dktJ12_append_3_3 := dk_seg dksJ12_append_3_2 22 rfl rfl
theorem dJ12_append_3_0 : decode cJ12_append_3 0 = .ok (.aload_n 0, 1) := dk_42 (dk_at dksJ12_append_3_0 0 rfl rfl)
theorem dJ12_append_3_1 : decode cJ12_append_3 1 = .ok (.aload_n 0, 1) := dk_42 (dk_at dksJ12_append_3_0 1 rfl rfl)
theorem dJ12_append_3_2 : decode cJ12_append_3 2 = .ok (.getfield 79, 3) := dk_180 0 79 (dk_at dksJ12_append_3_0 2 rfl rfl)
theorem dJ12_append_3_5 : decode cJ12_append_3 5 = .ok (.iconst 1, 1) := dk_4 (dk_at dksJ12_append_3_0 5 rfl rfl)
theorem dJ12_append_3_6 : decode cJ12_append_3 6 = .ok (.iadd, 1) := dk_96 (dk_at dksJ12_append_3_0 6 rfl rfl)
theorem dJ12_append_3_7 : decode cJ12_append_3 7 = .ok (.invokevirtual 100, 3) := dk_182 0 100 (dk_at dksJ12_append_3_0 7 rfl rfl)
theorem dJ12_append_3_10 : decode cJ12_append_3 10 = .ok (.aload_n 0, 1) := dk_42 (dk_at dksJ12_append_3_0 10 rfl rfl)
theorem dJ12_append_3_11 : decode cJ12_append_3 11 = .ok (.invokevirtual 83, 3) := dk_182 0 83 (dk_at dksJ12_append_3_0 11 rfl rfl)
theorem dJ12_append_3_14 : decode cJ12_append_3 14 = .ok (.ifCond .eq 31, 3) := dk_153 0 31 (dk_at dksJ12_append_3_0 14 rfl rfl)
theorem dJ12_append_3_17 : decode cJ12_append_3 17 = .ok (.iload_n 1, 1) := dk_27 (dk_at dksJ12_append_3_0 17 rfl rfl)
theorem dJ12_append_3_18 : decode cJ12_append_3 18 = .ok (.invokestatic 191, 3) := dk_184 0 191 (dk_at dksJ12_append_3_0 18 rfl rfl)
theorem dJ12_append_3_21 : decode cJ12_append_3 21 = .ok (.ifCond .eq 24, 3) := dk_153 0 24 (dk_at dksJ12_append_3_0 21 rfl rfl)
theorem dJ12_append_3_24 : decode cJ12_append_3 24 = .ok (.aload_n 0, 1) := dk_42 (dk_at dksJ12_append_3_1 0 rfl rfl)
theorem dJ12_append_3_25 : decode cJ12_append_3 25 = .ok (.getfield 15, 3) := dk_180 0 15 (dk_at dksJ12_append_3_1 1 rfl rfl)
theorem dJ12_append_3_28 : decode cJ12_append_3 28 = .ok (.aload_n 0, 1) := dk_42 (dk_at dksJ12_append_3_1 4 rfl rfl)
theorem dJ12_append_3_29 : decode cJ12_append_3 29 = .ok (.dup, 1) := dk_89 (dk_at dksJ12_append_3_1 5 rfl rfl)
theorem dJ12_append_3_30 : decode cJ12_append_3 30 = .ok (.getfield 79, 3) := dk_180 0 79 (dk_at dksJ12_append_3_1 6 rfl rfl)
theorem dJ12_append_3_33 : decode cJ12_append_3 33 = .ok (.dup_x1, 1) := dk_90 (dk_at dksJ12_append_3_1 9 rfl rfl)
theorem dJ12_append_3_34 : decode cJ12_append_3 34 = .ok (.iconst 1, 1) := dk_4 (dk_at dksJ12_append_3_1 10 rfl rfl)
theorem dJ12_append_3_35 : decode cJ12_append_3 35 = .ok (.iadd, 1) := dk_96 (dk_at dksJ12_append_3_1 11 rfl rfl)
theorem dJ12_append_3_36 : decode cJ12_append_3 36 = .ok (.putfield 79, 3) := dk_181 0 79 (dk_at dksJ12_append_3_1 12 rfl rfl)
theorem dJ12_append_3_39 : decode cJ12_append_3 39 = .ok (.iload_n 1, 1) := dk_27 (dk_at dksJ12_append_3_1 15 rfl rfl)
theorem dJ12_append_3_40 : decode cJ12_append_3 40 = .ok (.i2b, 1) := dk_145 (dk_at dksJ12_append_3_1 16 rfl rfl)
theorem dJ12_append_3_41 : decode cJ12_append_3 41 = .ok (.bastore, 1) := dk_84 (dk_at dksJ12_append_3_1 17 rfl rfl)
theorem dJ12_append_3_42 : decode cJ12_append_3 42 = .ok (.goto 33, 3) := dk_167 0 33 (dk_at dksJ12_append_3_1 18 rfl rfl)
theorem dJ12_append_3_45 : decode cJ12_append_3 45 = .ok (.aload_n 0, 1) := dk_42 (dk_at dksJ12_append_3_1 21 rfl rfl)
theorem dJ12_append_3_46 : decode cJ12_append_3 46 = .ok (.invokevirtual 83, 3) := dk_182 0 83 (dk_at dksJ12_append_3_2 0 rfl rfl)
theorem dJ12_append_3_49 : decode cJ12_append_3 49 = .ok (.ifCond .eq 7, 3) := dk_153 0 7 (dk_at dksJ12_append_3_2 3 rfl rfl)
theorem dJ12_append_3_52 : decode cJ12_append_3 52 = .ok (.aload_n 0, 1) := dk_42 (dk_at dksJ12_append_3_2 6 rfl rfl)
theorem dJ12_append_3_53 : decode cJ12_append_3 53 = .ok (.invokevirtual 195, 3) := dk_182 0 195 (dk_at dksJ12_append_3_2 7 rfl rfl)
theorem dJ12_append_3_56 : decode cJ12_append_3 56 = .ok (.aload_n 0, 1) := dk_42 (dk_at dksJ12_append_3_2 10 rfl rfl)
theorem dJ12_append_3_57 : decode cJ12_append_3 57 = .ok (.getfield 15, 3) := dk_180 0 15 (dk_at dksJ12_append_3_2 11 rfl rfl)
theorem dJ12_append_3_60 : decode cJ12_append_3 60 = .ok (.aload_n 0, 1) := dk_42 (dk_at dksJ12_append_3_2 14 rfl rfl)
theorem dJ12_append_3_61 : decode cJ12_append_3 61 = .ok (.dup, 1) := dk_89 (dk_at dksJ12_append_3_2 15 rfl rfl)
theorem dJ12_append_3_62 : decode cJ12_append_3 62 = .ok (.getfield 79, 3) := dk_180 0 79 (dk_at dksJ12_append_3_2 16 rfl rfl)
theorem dJ12_append_3_65 : decode cJ12_append_3 65 = .ok (.dup_x1, 1) := dk_90 (dk_at dksJ12_append_3_2 19 rfl rfl)
theorem dJ12_append_3_66 : decode cJ12_append_3 66 = .ok (.iconst 1, 1) := dk_4 (dk_at dksJ12_append_3_2 20 rfl rfl)
theorem dJ12_append_3_67 : decode cJ12_append_3 67 = .ok (.iadd, 1) := dk_96 (dk_at dksJ12_append_3_2 21 rfl rfl)
theorem dJ12_append_3_68 : decode cJ12_append_3 68 = .ok (.putfield 79, 3) := dk_181 0 79 (dk_at dksJ12_append_3_3 0 rfl rfl)
theorem dJ12_append_3_71 : decode cJ12_append_3 71 = .ok (.iload_n 1, 1) := dk_27 (dk_at dksJ12_append_3_3 3 rfl rfl)
theorem dJ12_append_3_72 : decode cJ12_append_3 72 = .ok (.invokestatic 197, 3) := dk_184 0 197 (dk_at dksJ12_append_3_3 4 rfl rfl)
theorem dJ12_append_3_75 : decode cJ12_append_3 75 = .ok (.aload_n 0, 1) := dk_42 (dk_at dksJ12_append_3_3 7 rfl rfl)
theorem dJ12_append_3_76 : decode cJ12_append_3 76 = .ok (.areturn, 1) := dk_176 (dk_at dksJ12_append_3_3 8 rfl rfl)
/-! java/lang/AbstractStringBuilder.append(C)Ljava/lang/AbstractStringBuilder; -/
abbrev M_J12_append_3 (z0 n0 : Nat) (s' : gS) : gM := (RJ12, cJ12_append_3, 2, (some (FieldType.object "java/lang/AbstractStringBuilder")), "append", [], 4, z0, n0, s'.2.1, s'.2.2)
abbrev W_J12_append_3 (E : gE) (z0 n0 : Nat) (r : (Option Nat)) (s' : gS) (pc : Nat) (L : List (Nat × gV)) (st : List gV) (s : gS) : Prop := gW E (M_J12_append_3 z0 n0 s') (gQm E (M_J12_append_3 z0 n0 s') (.inl (some (vR r))) s') pc L st s
noncomputable def f_J12_append_3_75 (κ : gK) (F : Nat)  (l0 : Option Nat) (s : gS) : Option ((Option Nat) × gS) :=
  some (l0, s)
set_option maxHeartbeats 4000000 in
theorem w_J12_append_3_75 {E : gE} {F z0 n0 : Nat} {r : (Option Nat)} {s' : gS}   : ∀ (l0 : Option Nat)  (s : gS), f_J12_append_3_75 (gk E) F  l0 s = some (r, s') → W_J12_append_3 E z0 n0 r s' 75 [(0, vR l0)] [] s := by
  intro l0 s hB
  unfold f_J12_append_3_75 at hB
  refine gw_aload_n 0 rfl dJ12_append_3_75 ?_
  obtain ⟨rfl, rfl⟩ := Prod.mk.inj (Option.some.inj hB)
  exact gw_aret rfl (Or.inl ⟨_, rfl⟩) rfl rfl dJ12_append_3_76
noncomputable def f_J12_append_3_56 (κ : gK) (F : Nat)  (l0 : Option Nat) (l1 : Int32) (s : gS) : Option ((Option Nat) × gS) :=
  gB1 (gfR s l0 17 0) fun v1 =>
  gB1 (gfI s l0 17 3) fun v2 =>
  gB1 (gpf κ s l0 17 3 (.int (v2 + (1 : Int32)))) fun s3 =>
  none
set_option maxHeartbeats 4000000 in
theorem w_J12_append_3_56 {E : gE} {F z0 n0 : Nat} {r : (Option Nat)} {s' : gS}   : ∀ (l0 : Option Nat) (l1 : Int32)  (s : gS), f_J12_append_3_56 (gk E) F  l0 l1 s = some (r, s') → W_J12_append_3 E z0 n0 r s' 56 [(0, vR l0), (1, vI l1)] [] s := by
  intro l0 l1 s hB
  unfold f_J12_append_3_56 at hB
  refine gw_aload_n 0 rfl dJ12_append_3_56 ?_
  obtain ⟨v1, hv1, hB⟩ := gB1_some hB
  refine gw_getf (C := RJ13) (T := TJ13) (N := 4) (k := 0) gcl17 (by decide) in_J13 q501 (gfR_spec hv1) dJ12_append_3_57 ?_
  refine gw_aload_n 0 rfl dJ12_append_3_60 ?_
  refine gw_dup rfl dJ12_append_3_61 ?_
  obtain ⟨v2, hv2, hB⟩ := gB1_some hB
  refine gw_getf (C := RJ13) (T := TJ13) (N := 4) (k := 3) gcl17 (by decide) in_J13 q505 (gfI_spec hv2) dJ12_append_3_62 ?_
  refine gw_dup_x1 rfl rfl dJ12_append_3_65 ?_
  refine gw_iconst (v := (1 : Int32)) (by decide) dJ12_append_3_66 ?_
  refine gw_iadd dJ12_append_3_67 ?_
  obtain ⟨s3, hs3, hB⟩ := gB1_some hB
  refine gw_putf (C := RJ13) (T := TJ13) (N := 4) (k := 3) tyJ13 tyJ13_ok nmJ13 gcl17 (by decide) in_J13 q505 rfl (tyJ13_ok 3 (by decide)) (gNF_i _) hs3 dJ12_append_3_68 ?_
  refine gw_iload_n 1 rfl dJ12_append_3_71 ?_
  cases hB
noncomputable def f_J12_append_3_45 (κ : gK) (F : Nat)  (l0 : Option Nat) (l1 : Int32) (s : gS) : Option ((Option Nat) × gS) :=
  gB1 (gck s l0 17) fun _ =>
  gB2 (f_J12_isLatin1 κ F l0  s) fun v2 s1 =>
  if v2 = 0 then
    f_J12_append_3_56 κ F  l0 l1 s1
  else
    none
set_option maxHeartbeats 4000000 in
theorem w_J12_append_3_45 {E : gE} {F z0 n0 : Nat} {r : (Option Nat)} {s' : gS}   : ∀ (l0 : Option Nat) (l1 : Int32)  (s : gS), f_J12_append_3_45 (gk E) F  l0 l1 s = some (r, s') → W_J12_append_3 E z0 n0 r s' 45 [(0, vR l0), (1, vI l1)] [] s := by
  intro l0 l1 s hB
  unfold f_J12_append_3_45 at hB
  refine gw_aload_n 0 rfl dJ12_append_3_45 ?_
  obtain ⟨u0, hu3, hB⟩ := gB1_some hB
  obtain ⟨v2, s1, hv2, hB⟩ := gB2_some hB
  refine gw_callU (C := "java/lang/StringBuilder") (owner := "java/lang/AbstractStringBuilder") (x := ⟨"java/lang/AbstractStringBuilder", "isLatin1", "()Z"⟩) (y := yJ12_isLatin1) (lw_app (lw_in (([Cond.methodLink "java/lang/AbstractStringBuilder" 83 ⟨"java/lang/AbstractStringBuilder", "isLatin1", "()Z"⟩, Cond.sameMethod "java/lang/AbstractStringBuilder" "java/lang/AbstractStringBuilder" "isLatin1" "()Z", Cond.selects "java/lang/StringBuilder" ⟨"java/lang/AbstractStringBuilder", "isLatin1", "()Z"⟩ yJ12_isLatin1, Cond.instanceMethod yJ12_isLatin1, Cond.initialized "java/lang/AbstractStringBuilder"] : List Cond)) [563, 565, 566, 564, 127] (by decide +kernel) (by decide +kernel)) (lw_meth q567)) rfl (show _ ∧ _ ∧ _ = some 0 from by decide +kernel) gcl17 hu3 (As := []) (rest := []) (m_J12_isLatin1 _ _ _ _ hv2) (Nat.le_of_ble_eq_true rfl) (Nat.le_of_ble_eq_true rfl) rfl (Nat.le_of_ble_eq_true rfl) dJ12_append_3_46 (gCont_i ?_)
  refine gw_if_eq (tgt := 56) dJ12_append_3_49 (by decide) (fun hcnd => ?_) (fun hcnd => ?_)
  · rw [if_pos hcnd] at hB
    exact gw_sub [0, 1] rfl (w_J12_append_3_56  _ _ _ hB)
  · rw [if_neg hcnd] at hB
    refine gw_aload_n 0 rfl dJ12_append_3_52 ?_
    cases hB
noncomputable def f_J12_append_3_0 (κ : gK) (F : Nat)  (l0 : Option Nat) (l1 : Int32) (s : gS) : Option ((Option Nat) × gS) :=
  gB1 (gfI s l0 17 3) fun v1 =>
  gB1 (gck s l0 17) fun _ =>
  gB2 (f_J12_ensureCapacityInternal κ F l0 (v1 + (1 : Int32)) s) fun v3 s2 =>
  gB1 (gck s2 l0 17) fun _ =>
  gB2 (f_J12_isLatin1 κ F l0  s2) fun v6 s5 =>
  if v6 = 0 then
    f_J12_append_3_45 κ F  l0 l1 s5
  else
    gB2 (f_J5_canEncode κ F l1 s5) fun v9 s8 =>
    if v9 = 0 then
      f_J12_append_3_45 κ F  l0 l1 s8
    else
      gB1 (gfR s8 l0 17 0) fun v10 =>
      gB1 (gfI s8 l0 17 3) fun v11 =>
      gB1 (gpf κ s8 l0 17 3 (.int (v11 + (1 : Int32)))) fun s12 =>
      gB1 (gsB κ s12 v10 v11 (l1.toInt8.toInt32)) fun s13 =>
      f_J12_append_3_75 κ F  l0 s13
set_option maxHeartbeats 4000000 in
theorem w_J12_append_3_0 {E : gE} {F z0 n0 : Nat} {r : (Option Nat)} {s' : gS}   : ∀ (l0 : Option Nat) (l1 : Int32)  (s : gS), f_J12_append_3_0 (gk E) F  l0 l1 s = some (r, s') → W_J12_append_3 E z0 n0 r s' 0 [(0, vR l0), (1, vI l1)] [] s := by
  intro l0 l1 s hB
  unfold f_J12_append_3_0 at hB
  refine gw_aload_n 0 rfl dJ12_append_3_0 ?_
  refine gw_aload_n 0 rfl dJ12_append_3_1 ?_
  obtain ⟨v1, hv1, hB⟩ := gB1_some hB
  refine gw_getf (C := RJ13) (T := TJ13) (N := 4) (k := 3) gcl17 (by decide) in_J13 q505 (gfI_spec hv1) dJ12_append_3_2 ?_
  refine gw_iconst (v := (1 : Int32)) (by decide) dJ12_append_3_5 ?_
  refine gw_iadd dJ12_append_3_6 ?_
  obtain ⟨u0, hu4, hB⟩ := gB1_some hB
  obtain ⟨v3, s2, hv3, hB⟩ := gB2_some hB
  refine gw_callP (C := "java/lang/StringBuilder") (y := yJ12_ensureCapacityInternal) (lw_meth q531) q127 q528 q530 (lw_t q485) q529 (lw_t q3108) hdS_J12_ensureCapacityInternal gcl17 hu4 (As := [vI (v1 + (1 : Int32))]) (rest := []) (m_J12_ensureCapacityInternal _ _ _ _ _ hv3) (Nat.le_of_ble_eq_true rfl) (Nat.le_of_ble_eq_true rfl) rfl (Nat.le_of_ble_eq_true rfl) dJ12_append_3_7 (gCont_v ?_)
  refine gw_aload_n 0 rfl dJ12_append_3_10 ?_
  obtain ⟨u0, hu7, hB⟩ := gB1_some hB
  obtain ⟨v6, s5, hv6, hB⟩ := gB2_some hB
  refine gw_callU (C := "java/lang/StringBuilder") (owner := "java/lang/AbstractStringBuilder") (x := ⟨"java/lang/AbstractStringBuilder", "isLatin1", "()Z"⟩) (y := yJ12_isLatin1) (lw_app (lw_in (([Cond.methodLink "java/lang/AbstractStringBuilder" 83 ⟨"java/lang/AbstractStringBuilder", "isLatin1", "()Z"⟩, Cond.sameMethod "java/lang/AbstractStringBuilder" "java/lang/AbstractStringBuilder" "isLatin1" "()Z", Cond.selects "java/lang/StringBuilder" ⟨"java/lang/AbstractStringBuilder", "isLatin1", "()Z"⟩ yJ12_isLatin1, Cond.instanceMethod yJ12_isLatin1, Cond.initialized "java/lang/AbstractStringBuilder"] : List Cond)) [563, 565, 566, 564, 127] (by decide +kernel) (by decide +kernel)) (lw_meth q567)) rfl (show _ ∧ _ ∧ _ = some 0 from by decide +kernel) gcl17 hu7 (As := []) (rest := []) (m_J12_isLatin1 _ _ _ _ hv6) (Nat.le_of_ble_eq_true rfl) (Nat.le_of_ble_eq_true rfl) rfl (Nat.le_of_ble_eq_true rfl) dJ12_append_3_11 (gCont_i ?_)
  refine gw_if_eq (tgt := 45) dJ12_append_3_14 (by decide) (fun hcnd => ?_) (fun hcnd => ?_)
  · rw [if_pos hcnd] at hB
    exact gw_sub [0, 1] rfl (w_J12_append_3_45  _ _ _ hB)
  · rw [if_neg hcnd] at hB
    refine gw_iload_n 1 rfl dJ12_append_3_17 ?_
    obtain ⟨v9, s8, hv9, hB⟩ := gB2_some hB
    refine gw_callS (y := yJ5_canEncode) (lw_S q1377 q1378 q120 q1379) hdS_J5_canEncode (As := [vI l1]) (rest := []) (m_J5_canEncode _ _ _ _ hv9) (Nat.le_of_ble_eq_true rfl) (Nat.le_of_ble_eq_true rfl) rfl (Nat.le_of_ble_eq_true rfl) dJ12_append_3_18 (gCont_i ?_)
    refine gw_if_eq (tgt := 45) dJ12_append_3_21 (by decide) (fun hcnd => ?_) (fun hcnd => ?_)
    · rw [if_pos hcnd] at hB
      exact gw_sub [0, 1] rfl (w_J12_append_3_45  _ _ _ hB)
    · rw [if_neg hcnd] at hB
      refine gw_aload_n 0 rfl dJ12_append_3_24 ?_
      obtain ⟨v10, hv10, hB⟩ := gB1_some hB
      refine gw_getf (C := RJ13) (T := TJ13) (N := 4) (k := 0) gcl17 (by decide) in_J13 q501 (gfR_spec hv10) dJ12_append_3_25 ?_
      refine gw_aload_n 0 rfl dJ12_append_3_28 ?_
      refine gw_dup rfl dJ12_append_3_29 ?_
      obtain ⟨v11, hv11, hB⟩ := gB1_some hB
      refine gw_getf (C := RJ13) (T := TJ13) (N := 4) (k := 3) gcl17 (by decide) in_J13 q505 (gfI_spec hv11) dJ12_append_3_30 ?_
      refine gw_dup_x1 rfl rfl dJ12_append_3_33 ?_
      refine gw_iconst (v := (1 : Int32)) (by decide) dJ12_append_3_34 ?_
      refine gw_iadd dJ12_append_3_35 ?_
      obtain ⟨s12, hs12, hB⟩ := gB1_some hB
      refine gw_putf (C := RJ13) (T := TJ13) (N := 4) (k := 3) tyJ13 tyJ13_ok nmJ13 gcl17 (by decide) in_J13 q505 rfl (tyJ13_ok 3 (by decide)) (gNF_i _) hs12 dJ12_append_3_36 ?_
      refine gw_iload_n 1 rfl dJ12_append_3_39 ?_
      refine gw_i2b dJ12_append_3_40 ?_
      obtain ⟨s13, hs13, hB⟩ := gB1_some hB
      refine gw_bastore hs13 dJ12_append_3_41 ?_
      refine gw_goto (tgt := 75) dJ12_append_3_42 (by decide) ?_
      exact gw_sub [0] rfl (w_J12_append_3_75  _ _ hB)
noncomputable def f_J12_append_3 (κ : gK) (F : Nat) (a0 : Option Nat) (a1 : Int32) (s : gS) : Option ((Option Nat) × gS) := f_J12_append_3_0 κ F a0 a1 s
theorem m_J12_append_3 {E : gE} {F : Nat} (a0 : Option Nat) (a1 : Int32) (s : gS) (r : (Option Nat)) (s' : gS) (h : f_J12_append_3 (gk E) F a0 a1 s = some (r, s')) : gCT E 4 yJ12_append_3 (ws_ yJ12_append_3 cJ12_append_3 2 (some (FieldType.object "java/lang/AbstractStringBuilder"))) [vR a0, vI a1] s (.inl (some (vR r))) s' := by
  refine gCT_of2 (fun h => absurd h (by decide)) (plainFor_of_name (by decide)) (Nat.le_of_ble_eq_true rfl) ?_
  exact gw_sub [0, 1] rfl (w_J12_append_3_0 _ _ _ h)
def dkwJ13_append_3_0 : List UInt8 := [42, 27, 183, 0, 50, 87, 42, 176]
abbrev dktJ13_append_3_0 : List UInt8 := dkwJ13_append_3_0 ++ []
theorem dksJ13_append_3_0 : cJ13_append_3.data.toList.drop 0 = dktJ13_append_3_0 := by decide +kernel
theorem dJ13_append_3_0 : decode cJ13_append_3 0 = .ok (.aload_n 0, 1) := dk_42 (dk_at dksJ13_append_3_0 0 rfl rfl)
theorem dJ13_append_3_1 : decode cJ13_append_3 1 = .ok (.iload_n 1, 1) := dk_27 (dk_at dksJ13_append_3_0 1 rfl rfl)
theorem dJ13_append_3_2 : decode cJ13_append_3 2 = .ok (.invokespecial 50, 3) := dk_183 0 50 (dk_at dksJ13_append_3_0 2 rfl rfl)
theorem dJ13_append_3_5 : decode cJ13_append_3 5 = .ok (.pop, 1) := dk_87 (dk_at dksJ13_append_3_0 5 rfl rfl)
theorem dJ13_append_3_6 : decode cJ13_append_3 6 = .ok (.aload_n 0, 1) := dk_42 (dk_at dksJ13_append_3_0 6 rfl rfl)
theorem dJ13_append_3_7 : decode cJ13_append_3 7 = .ok (.areturn, 1) := dk_176 (dk_at dksJ13_append_3_0 7 rfl rfl)
/-! java/lang/StringBuilder.append(C)Ljava/lang/StringBuilder; -/
abbrev M_J13_append_3 (z0 n0 : Nat) (s' : gS) : gM := (RJ13, cJ13_append_3, 2, (some (FieldType.object "java/lang/StringBuilder")), "append", [], 5, z0, n0, s'.2.1, s'.2.2)
abbrev W_J13_append_3 (E : gE) (z0 n0 : Nat) (r : (Option Nat)) (s' : gS) (pc : Nat) (L : List (Nat × gV)) (st : List gV) (s : gS) : Prop := gW E (M_J13_append_3 z0 n0 s') (gQm E (M_J13_append_3 z0 n0 s') (.inl (some (vR r))) s') pc L st s
noncomputable def f_J13_append_3_0 (κ : gK) (F : Nat)  (l0 : Option Nat) (l1 : Int32) (s : gS) : Option ((Option Nat) × gS) :=
  gB1 (gck s l0 17) fun _ =>
  gB2 (f_J12_append_3 κ F l0 l1 s) fun v2 s1 =>
  some (l0, s1)
set_option maxHeartbeats 4000000 in
theorem w_J13_append_3_0 {E : gE} {F z0 n0 : Nat} {r : (Option Nat)} {s' : gS}   : ∀ (l0 : Option Nat) (l1 : Int32)  (s : gS), f_J13_append_3_0 (gk E) F  l0 l1 s = some (r, s') → W_J13_append_3 E z0 n0 r s' 0 [(0, vR l0), (1, vI l1)] [] s := by
  intro l0 l1 s hB
  unfold f_J13_append_3_0 at hB
  refine gw_aload_n 0 rfl dJ13_append_3_0 ?_
  refine gw_iload_n 1 rfl dJ13_append_3_1 ?_
  obtain ⟨u0, hu3, hB⟩ := gB1_some hB
  obtain ⟨v2, s1, hv2, hB⟩ := gB2_some hB
  refine gw_callSU (C := "java/lang/StringBuilder") (y := yJ12_append_3) (lw_app (lw_in (([Cond.methodLink "java/lang/StringBuilder" 50 yJ12_append_3, Cond.sameMethod "java/lang/AbstractStringBuilder" "java/lang/AbstractStringBuilder" "append" "(C)Ljava/lang/AbstractStringBuilder;", Cond.superclass "java/lang/StringBuilder" "java/lang/AbstractStringBuilder", Cond.instanceMethod yJ12_append_3, Cond.initialized "java/lang/AbstractStringBuilder"] : List Cond)) [1374, 3115, 514, 1375, 127] (by decide +kernel) (by decide +kernel)) (lw_meth q1376)) (show _ ∧ _ = some 1 from by decide +kernel) gcl17 hu3 (As := [vI l1]) (rest := []) (m_J12_append_3 _ _ _ _ _ hv2) (Nat.le_of_ble_eq_true rfl) (Nat.le_of_ble_eq_true rfl) rfl (Nat.le_of_ble_eq_true rfl) dJ13_append_3_2 (gCont_i ?_)
  refine gw_pop rfl dJ13_append_3_5 ?_
  refine gw_aload_n 0 rfl dJ13_append_3_6 ?_
  obtain ⟨rfl, rfl⟩ := Prod.mk.inj (Option.some.inj hB)
  exact gw_aret rfl (Or.inl ⟨_, rfl⟩) rfl rfl dJ13_append_3_7
noncomputable def f_J13_append_3 (κ : gK) (F : Nat) (a0 : Option Nat) (a1 : Int32) (s : gS) : Option ((Option Nat) × gS) := f_J13_append_3_0 κ F a0 a1 s
theorem m_J13_append_3 {E : gE} {F : Nat} (a0 : Option Nat) (a1 : Int32) (s : gS) (r : (Option Nat)) (s' : gS) (h : f_J13_append_3 (gk E) F a0 a1 s = some (r, s')) : gCT E 5 yJ13_append_3 (ws_ yJ13_append_3 cJ13_append_3 2 (some (FieldType.object "java/lang/StringBuilder"))) [vR a0, vI a1] s (.inl (some (vR r))) s' := by
  refine gCT_of2 (fun h => absurd h (by decide)) (plainFor_of_name (by decide)) (Nat.le_of_ble_eq_true rfl) ?_
  exact gw_sub [0, 1] rfl (w_J13_append_3_0 _ _ _ h)
def dkwJ4_isLatin1_0 : List UInt8 := [178, 0, 38, 153, 0, 14, 42, 180, 0, 15, 154, 0, 7, 4, 167, 0, 4, 3, 172]
abbrev dktJ4_isLatin1_0 : List UInt8 := dkwJ4_isLatin1_0 ++ []
theorem dksJ4_isLatin1_0 : cJ4_isLatin1.data.toList.drop 0 = dktJ4_isLatin1_0 := by decide +kernel
theorem dJ4_isLatin1_0 : decode cJ4_isLatin1 0 = .ok (.getstatic 38, 3) := dk_178 0 38 (dk_at dksJ4_isLatin1_0 0 rfl rfl)
theorem dJ4_isLatin1_3 : decode cJ4_isLatin1 3 = .ok (.ifCond .eq 14, 3) := dk_153 0 14 (dk_at dksJ4_isLatin1_0 3 rfl rfl)
theorem dJ4_isLatin1_6 : decode cJ4_isLatin1 6 = .ok (.aload_n 0, 1) := dk_42 (dk_at dksJ4_isLatin1_0 6 rfl rfl)
theorem dJ4_isLatin1_7 : decode cJ4_isLatin1 7 = .ok (.getfield 15, 3) := dk_180 0 15 (dk_at dksJ4_isLatin1_0 7 rfl rfl)
theorem dJ4_isLatin1_10 : decode cJ4_isLatin1 10 = .ok (.ifCond .ne 7, 3) := dk_154 0 7 (dk_at dksJ4_isLatin1_0 10 rfl rfl)
theorem dJ4_isLatin1_13 : decode cJ4_isLatin1 13 = .ok (.iconst 1, 1) := dk_4 (dk_at dksJ4_isLatin1_0 13 rfl rfl)
theorem dJ4_isLatin1_14 : decode cJ4_isLatin1 14 = .ok (.goto 4, 3) := dk_167 0 4 (dk_at dksJ4_isLatin1_0 14 rfl rfl)
theorem dJ4_isLatin1_17 : decode cJ4_isLatin1 17 = .ok (.iconst 0, 1) := dk_3 (dk_at dksJ4_isLatin1_0 17 rfl rfl)
theorem dJ4_isLatin1_18 : decode cJ4_isLatin1 18 = .ok (.ireturn, 1) := dk_172 (dk_at dksJ4_isLatin1_0 18 rfl rfl)
/-! java/lang/String.isLatin1()Z -/
abbrev M_J4_isLatin1 (z0 n0 : Nat) (s' : gS) : gM := (RJ4, cJ4_isLatin1, 1, (some FieldType.boolean), "isLatin1", [], 1, z0, n0, s'.2.1, s'.2.2)
abbrev W_J4_isLatin1 (E : gE) (z0 n0 : Nat) (r : Int32) (s' : gS) (pc : Nat) (L : List (Nat × gV)) (st : List gV) (s : gS) : Prop := gW E (M_J4_isLatin1 z0 n0 s') (gQm E (M_J4_isLatin1 z0 n0 s') (.inl (some (vI r))) s') pc L st s
noncomputable def f_J4_isLatin1_18 (κ : gK) (F : Nat)  (t0 : Int32) (s : gS) : Option (Int32 × gS) :=
  gB1 (gok .boolean t0) fun _ => some (t0, s)
set_option maxHeartbeats 4000000 in
theorem w_J4_isLatin1_18 {E : gE} {F z0 n0 : Nat} {r : Int32} {s' : gS}   : ∀  (t0 : Int32) (s : gS), f_J4_isLatin1_18 (gk E) F  t0 s = some (r, s') → W_J4_isLatin1 E z0 n0 r s' 18 [] [vI t0] s := by
  intro t0 s hB
  unfold f_J4_isLatin1_18 at hB
  obtain ⟨u, hu, hB⟩ := gB1_some hB
  obtain ⟨rfl, rfl⟩ := Prod.mk.inj (Option.some.inj hB)
  exact gw_zret rfl hu rfl rfl dJ4_isLatin1_18
noncomputable def f_J4_isLatin1_17 (κ : gK) (F : Nat)   (s : gS) : Option (Int32 × gS) :=
  f_J4_isLatin1_18 κ F  (0 : Int32) s
set_option maxHeartbeats 4000000 in
theorem w_J4_isLatin1_17 {E : gE} {F z0 n0 : Nat} {r : Int32} {s' : gS}   : ∀   (s : gS), f_J4_isLatin1_17 (gk E) F   s = some (r, s') → W_J4_isLatin1 E z0 n0 r s' 17 [] [] s := by
  intro  s hB
  unfold f_J4_isLatin1_17 at hB
  refine gw_iconst (v := (0 : Int32)) (by decide) dJ4_isLatin1_17 ?_
  exact gw_sub [] rfl (w_J4_isLatin1_18  _ _ hB)
noncomputable def f_J4_isLatin1_0 (κ : gK) (F : Nat)  (l0 : Option Nat) (s : gS) : Option (Int32 × gS) :=
  if (1 : Int32) = 0 then
    f_J4_isLatin1_17 κ F  s
  else
    gB1 (gfI s l0 16 1) fun v1 =>
    if v1 = 0 then
      f_J4_isLatin1_18 κ F  (1 : Int32) s
    else
      f_J4_isLatin1_17 κ F  s
set_option maxHeartbeats 4000000 in
theorem w_J4_isLatin1_0 {E : gE} {F z0 n0 : Nat} {r : Int32} {s' : gS}   : ∀ (l0 : Option Nat)  (s : gS), f_J4_isLatin1_0 (gk E) F  l0 s = some (r, s') → W_J4_isLatin1 E z0 n0 r s' 0 [(0, vR l0)] [] s := by
  intro l0 s hB
  unfold f_J4_isLatin1_0 at hB
  refine gw_getsi (v := (1 : Int32)) (by decide) q374 dJ4_isLatin1_0 ?_
  refine gw_if_eq (tgt := 17) dJ4_isLatin1_3 (by decide) (fun hcnd => ?_) (fun hcnd => ?_)
  · rw [if_pos hcnd] at hB
    exact gw_sub [] rfl (w_J4_isLatin1_17   _ hB)
  · rw [if_neg hcnd] at hB
    refine gw_aload_n 0 rfl dJ4_isLatin1_6 ?_
    obtain ⟨v1, hv1, hB⟩ := gB1_some hB
    refine gw_getf (C := RJ4) (T := TJ4) (N := 4) (k := 1) gcl16 (by decide) in_J4 q732 (gfI_spec hv1) dJ4_isLatin1_7 ?_
    refine gw_if_ne (tgt := 17) dJ4_isLatin1_10 (by decide) (fun hcnd => ?_) (fun hcnd => ?_)
    · rw [if_neg hcnd] at hB
      exact gw_sub [] rfl (w_J4_isLatin1_17   _ hB)
    · rw [if_pos hcnd] at hB
      refine gw_iconst (v := (1 : Int32)) (by decide) dJ4_isLatin1_13 ?_
      refine gw_goto (tgt := 18) dJ4_isLatin1_14 (by decide) ?_
      exact gw_sub [] rfl (w_J4_isLatin1_18  _ _ hB)
noncomputable def f_J4_isLatin1 (κ : gK) (F : Nat) (a0 : Option Nat) (s : gS) : Option (Int32 × gS) := f_J4_isLatin1_0 κ F a0 s
theorem m_J4_isLatin1 {E : gE} {F : Nat} (a0 : Option Nat) (s : gS) (r : Int32) (s' : gS) (h : f_J4_isLatin1 (gk E) F a0 s = some (r, s')) : gCT E 1 yJ4_isLatin1 (ws_ yJ4_isLatin1 cJ4_isLatin1 1 (some FieldType.boolean)) [vR a0] s (.inl (some (vI r))) s' := by
  refine gCT_of2 (fun h => absurd h (by decide)) (plainFor_of_name (by decide)) (Nat.le_of_ble_eq_true rfl) ?_
  exact gw_sub [0] rfl (w_J4_isLatin1_0 _ _ h)
