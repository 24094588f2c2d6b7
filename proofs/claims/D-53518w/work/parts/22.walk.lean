set_option maxRecDepth 100000
def dkwX6_ownLeaf_2 : List UInt8 := [182, 0, 67, 21, 4, 172]
abbrev dktX6_ownLeaf_2 : List UInt8 := dkwX6_ownLeaf_2 ++ []
def dkwX6_ownLeaf_1 : List UInt8 := [54, 4, 42, 29, 21, 4, 182, 0, 99, 42, 29, 182, 0, 103, 42, 27, 16, 6, 28, 96, 21, 4]
abbrev dktX6_ownLeaf_1 : List UInt8 := dkwX6_ownLeaf_1 ++ dktX6_ownLeaf_2
def dkwX6_ownLeaf_0 : List UInt8 := [42, 27, 28, 182, 0, 75, 62, 42, 29, 7, 182, 0, 53, 4, 160, 0, 5, 29, 172, 42, 3, 182, 0, 96]
abbrev dktX6_ownLeaf_0 : List UInt8 := dkwX6_ownLeaf_0 ++ dktX6_ownLeaf_1
theorem dksX6_ownLeaf_0 : cX6_ownLeaf.data.toList.drop 0 = dktX6_ownLeaf_0 := by decide +kernel
theorem dksX6_ownLeaf_1 : cX6_ownLeaf.data.toList.drop 24 = dktX6_ownLeaf_1 := dk_seg dksX6_ownLeaf_0 24 rfl rfl
theorem dksX6_ownLeaf_2 : cX6_ownLeaf.data.toList.drop 46 = dktX6_ownLeaf_2 := dk_seg dksX6_ownLeaf_1 22 rfl rfl
theorem dX6_ownLeaf_0 : decode cX6_ownLeaf 0 = .ok (.aload_n 0, 1) := dk_42 (dk_at dksX6_ownLeaf_0 0 rfl rfl)
theorem dX6_ownLeaf_1 : decode cX6_ownLeaf 1 = .ok (.iload_n 1, 1) := dk_27 (dk_at dksX6_ownLeaf_0 1 rfl rfl)
theorem dX6_ownLeaf_2 : decode cX6_ownLeaf 2 = .ok (.iload_n 2, 1) := dk_28 (dk_at dksX6_ownLeaf_0 2 rfl rfl)
theorem dX6_ownLeaf_3 : decode cX6_ownLeaf 3 = .ok (.invokevirtual 75, 3) := dk_182 0 75 (dk_at dksX6_ownLeaf_0 3 rfl rfl)
theorem dX6_ownLeaf_6 : decode cX6_ownLeaf 6 = .ok (.istore_n 3, 1) := dk_62 (dk_at dksX6_ownLeaf_0 6 rfl rfl)
theorem dX6_ownLeaf_7 : decode cX6_ownLeaf 7 = .ok (.aload_n 0, 1) := dk_42 (dk_at dksX6_ownLeaf_0 7 rfl rfl)
theorem dX6_ownLeaf_8 : decode cX6_ownLeaf 8 = .ok (.iload_n 3, 1) := dk_29 (dk_at dksX6_ownLeaf_0 8 rfl rfl)
theorem dX6_ownLeaf_9 : decode cX6_ownLeaf 9 = .ok (.iconst 4, 1) := dk_7 (dk_at dksX6_ownLeaf_0 9 rfl rfl)
theorem dX6_ownLeaf_10 : decode cX6_ownLeaf 10 = .ok (.invokevirtual 53, 3) := dk_182 0 53 (dk_at dksX6_ownLeaf_0 10 rfl rfl)
theorem dX6_ownLeaf_13 : decode cX6_ownLeaf 13 = .ok (.iconst 1, 1) := dk_4 (dk_at dksX6_ownLeaf_0 13 rfl rfl)
theorem dX6_ownLeaf_14 : decode cX6_ownLeaf 14 = .ok (.if_icmp .ne 5, 3) := dk_160 0 5 (dk_at dksX6_ownLeaf_0 14 rfl rfl)
theorem dX6_ownLeaf_17 : decode cX6_ownLeaf 17 = .ok (.iload_n 3, 1) := dk_29 (dk_at dksX6_ownLeaf_0 17 rfl rfl)
theorem dX6_ownLeaf_18 : decode cX6_ownLeaf 18 = .ok (.ireturn, 1) := dk_172 (dk_at dksX6_ownLeaf_0 18 rfl rfl)
theorem dX6_ownLeaf_19 : decode cX6_ownLeaf 19 = .ok (.aload_n 0, 1) := dk_42 (dk_at dksX6_ownLeaf_0 19 rfl rfl)
theorem dX6_ownLeaf_20 : decode cX6_ownLeaf 20 = .ok (.iconst 0, 1) := dk_3 (dk_at dksX6_ownLeaf_0 20 rfl rfl)
theorem dX6_ownLeaf_21 : decode cX6_ownLeaf 21 = .ok (.invokevirtual 96, 3) := dk_182 0 96 (dk_at dksX6_ownLeaf_0 21 rfl rfl)
theorem dX6_ownLeaf_24 : decode cX6_ownLeaf 24 = .ok (.istore 4, 2) := dk_54 4 (dk_at dksX6_ownLeaf_1 0 rfl rfl)
theorem dX6_ownLeaf_26 : decode cX6_ownLeaf 26 = .ok (.aload_n 0, 1) := dk_42 (dk_at dksX6_ownLeaf_1 2 rfl rfl)
theorem dX6_ownLeaf_27 : decode cX6_ownLeaf 27 = .ok (.iload_n 3, 1) := dk_29 (dk_at dksX6_ownLeaf_1 3 rfl rfl)
theorem dX6_ownLeaf_28 : decode cX6_ownLeaf 28 = .ok (.iload 4, 2) := dk_21 4 (dk_at dksX6_ownLeaf_1 4 rfl rfl)
theorem dX6_ownLeaf_30 : decode cX6_ownLeaf 30 = .ok (.invokevirtual 99, 3) := dk_182 0 99 (dk_at dksX6_ownLeaf_1 6 rfl rfl)
theorem dX6_ownLeaf_33 : decode cX6_ownLeaf 33 = .ok (.aload_n 0, 1) := dk_42 (dk_at dksX6_ownLeaf_1 9 rfl rfl)
theorem dX6_ownLeaf_34 : decode cX6_ownLeaf 34 = .ok (.iload_n 3, 1) := dk_29 (dk_at dksX6_ownLeaf_1 10 rfl rfl)
theorem dX6_ownLeaf_35 : decode cX6_ownLeaf 35 = .ok (.invokevirtual 103, 3) := dk_182 0 103 (dk_at dksX6_ownLeaf_1 11 rfl rfl)
theorem dX6_ownLeaf_38 : decode cX6_ownLeaf 38 = .ok (.aload_n 0, 1) := dk_42 (dk_at dksX6_ownLeaf_1 14 rfl rfl)
theorem dX6_ownLeaf_39 : decode cX6_ownLeaf 39 = .ok (.iload_n 1, 1) := dk_27 (dk_at dksX6_ownLeaf_1 15 rfl rfl)
theorem dX6_ownLeaf_40 : decode cX6_ownLeaf 40 = .ok (.bipush 6, 2) := dk_16 6 (dk_at dksX6_ownLeaf_1 16 rfl rfl)
theorem dX6_ownLeaf_42 : decode cX6_ownLeaf 42 = .ok (.iload_n 2, 1) := dk_28 (dk_at dksX6_ownLeaf_1 18 rfl rfl)
theorem dX6_ownLeaf_43 : decode cX6_ownLeaf 43 = .ok (.iadd, 1) := dk_96 (dk_at dksX6_ownLeaf_1 19 rfl rfl)
theorem dX6_ownLeaf_44 : decode cX6_ownLeaf 44 = .ok (.iload 4, 2) := dk_21 4 (dk_at dksX6_ownLeaf_1 20 rfl rfl)
theorem dX6_ownLeaf_46 : decode cX6_ownLeaf 46 = .ok (.invokevirtual 67, 3) := dk_182 0 67 (dk_at dksX6_ownLeaf_2 0 rfl rfl)
theorem dX6_ownLeaf_49 : decode cX6_ownLeaf 49 = .ok (.iload 4, 2) := dk_21 4 (dk_at dksX6_ownLeaf_2 3 rfl rfl)
theorem dX6_ownLeaf_51 : decode cX6_ownLeaf 51 = .ok (.ireturn, 1) := dk_172 (dk_at dksX6_ownLeaf_2 5 rfl rfl)
/-! PageGardenModel.ownLeaf(II)I -/
abbrev M_X6_ownLeaf (z0 n0 : Nat) (s' : gS) : gM := (RX6, cX6_ownLeaf, 5, (some FieldType.int), "ownLeaf", [], 6, z0, n0, s'.2.1, s'.2.2)
abbrev W_X6_ownLeaf (E : gE) (z0 n0 : Nat) (r : Int32) (s' : gS) (pc : Nat) (L : List (Nat × gV)) (st : List gV) (s : gS) : Prop := gW E (M_X6_ownLeaf z0 n0 s') (gQm E (M_X6_ownLeaf z0 n0 s') (.inl (some (vI r))) s') pc L st s
noncomputable def f_X6_ownLeaf_0 (κ : gK) (F : Nat)  (l0 : Option Nat) (l1 : Int32) (l2 : Int32) (s : gS) : Option (Int32 × gS) :=
  gB1 (gck s l0 9) fun _ =>
  gB2 (f_X6_leafAt κ F l0 l1 l2 s) fun v2 s1 =>
  gB1 (gck s1 l0 9) fun _ =>
  gB2 (f_X6_of κ F l0 v2 (4 : Int32) s1) fun v5 s4 =>
  if v5 = (1 : Int32) then
    some (v2, s4)
  else
    gB1 (gck s4 l0 9) fun _ =>
    gB2 (f_X6_dig κ F l0 (0 : Int32) s4) fun v8 s7 =>
    gB1 (gck s7 l0 9) fun _ =>
    gB2 (f_X6_copies κ F l0 v2 v8 s7) fun v11 s10 =>
    gB1 (gck s10 l0 9) fun _ =>
    gB2 (f_X6_leaves κ F l0 v2 s10) fun v14 s13 =>
    gB1 (gck s13 l0 9) fun _ =>
    gB2 (f_X6_lay κ F l0 l1 ((6 : Int32) + l2) v8 s13) fun v17 s16 =>
    some (v8, s16)
set_option maxHeartbeats 4000000 in
theorem w_X6_ownLeaf_0 {E : gE} {F z0 n0 : Nat} {r : Int32} {s' : gS}   : ∀ (l0 : Option Nat) (l1 : Int32) (l2 : Int32)  (s : gS), f_X6_ownLeaf_0 (gk E) F  l0 l1 l2 s = some (r, s') → W_X6_ownLeaf E z0 n0 r s' 0 [(0, vR l0), (1, vI l1), (2, vI l2)] [] s := by
  intro l0 l1 l2 s hB
  unfold f_X6_ownLeaf_0 at hB
  refine gw_aload_n 0 rfl dX6_ownLeaf_0 ?_
  refine gw_iload_n 1 rfl dX6_ownLeaf_1 ?_
  refine gw_iload_n 2 rfl dX6_ownLeaf_2 ?_
  obtain ⟨u0, hu3, hB⟩ := gB1_some hB
  obtain ⟨v2, s1, hv2, hB⟩ := gB2_some hB
  refine gw_callV (y := yX6_leafAt) (lw_V q2800 q2802 qs59 q143 q2803) hdV_X6_leafAt gcl9 hu3 (As := [vI l1, vI l2]) (rest := []) (m_X6_leafAt _ _ _ _ _ _ hv2) (Nat.le_of_ble_eq_true rfl) (Nat.le_of_ble_eq_true rfl) rfl (Nat.le_of_ble_eq_true rfl) dX6_ownLeaf_3 (gCont_i ?_)
  refine gw_istore_n (L' := [(3, vI v2), (0, vR l0), (1, vI l1), (2, vI l2)]) (Nat.le_of_ble_eq_true rfl) rfl dX6_ownLeaf_6 ?_
  refine gw_aload_n 1 rfl dX6_ownLeaf_7 ?_
  refine gw_iload_n 0 rfl dX6_ownLeaf_8 ?_
  refine gw_iconst (v := (4 : Int32)) (by decide) dX6_ownLeaf_9 ?_
  obtain ⟨u0, hu6, hB⟩ := gB1_some hB
  obtain ⟨v5, s4, hv5, hB⟩ := gB2_some hB
  refine gw_callV (y := yX6_of) (lw_V q2796 q2798 qs58 q143 q2799) hdV_X6_of gcl9 hu6 (As := [vI v2, vI (4 : Int32)]) (rest := []) (m_X6_of _ _ _ _ _ _ hv5) (Nat.le_of_ble_eq_true rfl) (Nat.le_of_ble_eq_true rfl) rfl (Nat.le_of_ble_eq_true rfl) dX6_ownLeaf_10 (gCont_i ?_)
  refine gw_iconst (v := (1 : Int32)) (by decide) dX6_ownLeaf_13 ?_
  refine gw_icmp_ne (tgt := 19) dX6_ownLeaf_14 (by decide) (fun hcnd => ?_) (fun hcnd => ?_)
  · rw [if_neg hcnd] at hB
    refine gw_aload_n 1 rfl dX6_ownLeaf_19 ?_
    refine gw_iconst (v := (0 : Int32)) (by decide) dX6_ownLeaf_20 ?_
    obtain ⟨u0, hu9, hB⟩ := gB1_some hB
    obtain ⟨v8, s7, hv8, hB⟩ := gB2_some hB
    refine gw_callV (y := yX6_dig) (lw_V q2832 q2834 qs67 q143 q2835) hdV_X6_dig gcl9 hu9 (As := [vI (0 : Int32)]) (rest := []) (m_X6_dig _ _ _ _ _ hv8) (Nat.le_of_ble_eq_true rfl) (Nat.le_of_ble_eq_true rfl) rfl (Nat.le_of_ble_eq_true rfl) dX6_ownLeaf_21 (gCont_i ?_)
    refine gw_istore (L' := [(4, vI v8), (3, vI v2), (0, vR l0), (1, vI l1), (2, vI l2)]) (Nat.le_of_ble_eq_true rfl) rfl dX6_ownLeaf_24 ?_
    refine gw_aload_n 2 rfl dX6_ownLeaf_26 ?_
    refine gw_iload_n 1 rfl dX6_ownLeaf_27 ?_
    refine gw_iload 0 rfl dX6_ownLeaf_28 ?_
    obtain ⟨u0, hu12, hB⟩ := gB1_some hB
    obtain ⟨v11, s10, hv11, hB⟩ := gB2_some hB
    refine gw_callV (y := yX6_copies) (lw_V q2844 q2846 qs70 q143 q2847) hdV_X6_copies gcl9 hu12 (As := [vI v2, vI v8]) (rest := []) (m_X6_copies _ _ _ _ _ _ hv11) (Nat.le_of_ble_eq_true rfl) (Nat.le_of_ble_eq_true rfl) rfl (Nat.le_of_ble_eq_true rfl) dX6_ownLeaf_30 (gCont_v ?_)
    refine gw_aload_n 2 rfl dX6_ownLeaf_33 ?_
    refine gw_iload_n 1 rfl dX6_ownLeaf_34 ?_
    obtain ⟨u0, hu15, hB⟩ := gB1_some hB
    obtain ⟨v14, s13, hv14, hB⟩ := gB2_some hB
    refine gw_callV (y := yX6_leaves) (lw_V q2848 q2850 qs71 q143 q2851) hdV_X6_leaves gcl9 hu15 (As := [vI v2]) (rest := []) (m_X6_leaves _ _ _ _ _ hv14) (Nat.le_of_ble_eq_true rfl) (Nat.le_of_ble_eq_true rfl) rfl (Nat.le_of_ble_eq_true rfl) dX6_ownLeaf_35 (gCont_v ?_)
    refine gw_aload_n 2 rfl dX6_ownLeaf_38 ?_
    refine gw_iload_n 3 rfl dX6_ownLeaf_39 ?_
    refine gw_bipush (v := (6 : Int32)) (by decide) dX6_ownLeaf_40 ?_
    refine gw_iload_n 4 rfl dX6_ownLeaf_42 ?_
    refine gw_iadd dX6_ownLeaf_43 ?_
    refine gw_iload 0 rfl dX6_ownLeaf_44 ?_
    obtain ⟨u0, hu18, hB⟩ := gB1_some hB
    obtain ⟨v17, s16, hv17, hB⟩ := gB2_some hB
    refine gw_callV (y := yX6_lay) (lw_V q2840 q2842 qs69 q143 q2843) hdV_X6_lay gcl9 hu18 (As := [vI l1, vI ((6 : Int32) + l2), vI v8]) (rest := []) (m_X6_lay _ _ _ _ _ _ _ hv17) (Nat.le_of_ble_eq_true rfl) (Nat.le_of_ble_eq_true rfl) rfl (Nat.le_of_ble_eq_true rfl) dX6_ownLeaf_46 (gCont_v ?_)
    refine gw_iload 0 rfl dX6_ownLeaf_49 ?_
    obtain ⟨rfl, rfl⟩ := Prod.mk.inj (Option.some.inj hB)
    exact gw_iret rfl rfl rfl dX6_ownLeaf_51
  · rw [if_pos hcnd] at hB
    refine gw_iload_n 0 rfl dX6_ownLeaf_17 ?_
    obtain ⟨rfl, rfl⟩ := Prod.mk.inj (Option.some.inj hB)
    exact gw_iret rfl rfl rfl dX6_ownLeaf_18
noncomputable def f_X6_ownLeaf (κ : gK) (F : Nat) (a0 : Option Nat) (a1 : Int32) (a2 : Int32) (s : gS) : Option (Int32 × gS) := f_X6_ownLeaf_0 κ F a0 a1 a2 s
theorem m_X6_ownLeaf {E : gE} {F : Nat} (a0 : Option Nat) (a1 : Int32) (a2 : Int32) (s : gS) (r : Int32) (s' : gS) (h : f_X6_ownLeaf (gk E) F a0 a1 a2 s = some (r, s')) : gCT E 6 yX6_ownLeaf (ws_ yX6_ownLeaf cX6_ownLeaf 5 (some FieldType.int)) [vR a0, vI a1, vI a2] s (.inl (some (vI r))) s' := by
  refine gCT_of2 (fun h => absurd h (by decide)) (plainFor_of_name (by decide)) (Nat.le_of_ble_eq_true rfl) ?_
  exact gw_sub [0, 1, 2] rfl (w_X6_ownLeaf_0 _ _ _ _ h)
def dkwX6_splits_9 : List UInt8 := [182, 0, 67, 42, 21, 7, 5, 5, 182, 0, 67, 42, 27, 28, 4, 96, 21, 7, 182, 0, 110, 177]
abbrev dktX6_splits_9 : List UInt8 := dkwX6_splits_9 ++ []
def dkwX6_splits_8 : List UInt8 := [180, 0, 22, 5, 21, 8, 104, 4, 96, 46, 182, 0, 106, 132, 8, 1, 167, 255, 196, 42, 29, 5, 6]
abbrev dktX6_splits_8 : List UInt8 := dkwX6_splits_8 ++ dktX6_splits_9
def dkwX6_splits_7 : List UInt8 := [6, 162, 0, 8, 21, 8, 167, 0, 7, 21, 8, 6, 100, 42, 180, 0, 22, 5, 21, 8, 104, 46, 42]
abbrev dktX6_splits_7 : List UInt8 := dkwX6_splits_7 ++ dktX6_splits_8
def dkwX6_splits_6 : List UInt8 := [3, 54, 8, 21, 8, 8, 162, 0, 60, 42, 21, 8, 6, 162, 0, 7, 29, 167, 0, 5, 21, 7, 21, 8]
abbrev dktX6_splits_6 : List UInt8 := dkwX6_splits_6 ++ dktX6_splits_7
def dkwX6_splits_5 : List UInt8 := [167, 0, 10, 42, 29, 21, 8, 182, 0, 87, 79, 132, 7, 1, 167, 255, 171, 42, 3, 182, 0, 96, 54, 7]
abbrev dktX6_splits_5 : List UInt8 := dkwX6_splits_5 ++ dktX6_splits_6
def dkwX6_splits_4 : List UInt8 := [182, 0, 78, 79, 42, 180, 0, 22, 5, 21, 7, 104, 4, 96, 21, 7, 21, 6, 160, 0, 8, 21, 5]
abbrev dktX6_splits_4 : List UInt8 := dkwX6_splits_4 ++ dktX6_splits_5
def dkwX6_splits_3 : List UInt8 := [180, 0, 22, 5, 21, 7, 104, 21, 7, 21, 6, 160, 0, 8, 21, 4, 167, 0, 10, 42, 29, 21, 8]
abbrev dktX6_splits_3 : List UInt8 := dkwX6_splits_3 ++ dktX6_splits_4
def dkwX6_splits_2 : List UInt8 := [162, 0, 85, 21, 7, 21, 6, 162, 0, 8, 21, 7, 167, 0, 7, 21, 7, 4, 100, 54, 8, 42]
abbrev dktX6_splits_2 : List UInt8 := dkwX6_splits_2 ++ dktX6_splits_3
def dkwX6_splits_1 : List UInt8 := [162, 0, 7, 4, 167, 0, 4, 3, 96, 54, 6, 132, 7, 1, 167, 255, 225, 3, 54, 7, 21, 7, 8]
abbrev dktX6_splits_1 : List UInt8 := dkwX6_splits_1 ++ dktX6_splits_2
def dkwX6_splits_0 : List UInt8 := [3, 54, 6, 3, 54, 7, 21, 7, 7, 162, 0, 31, 21, 6, 42, 29, 21, 7, 182, 0, 78, 21, 4]
abbrev dktX6_splits_0 : List UInt8 := dkwX6_splits_0 ++ dktX6_splits_1
theorem dksX6_splits_0 : cX6_splits.data.toList.drop 0 = dktX6_splits_0 := by decide +kernel
theorem dksX6_splits_1 : cX6_splits.data.toList.drop 23 = dktX6_splits_1 := dk_seg dksX6_splits_0 23 rfl rfl
theorem dksX6_splits_2 : cX6_splits.data.toList.drop 46 = dktX6_splits_2 := dk_seg dksX6_splits_1 23 rfl rfl
theorem dksX6_splits_3 : cX6_splits.data.toList.drop 68 = dktX6_splits_3 := dk_seg dksX6_splits_2 22 rfl rfl
theorem dksX6_splits_4 : cX6_splits.data.toList.drop 91 = dktX6_splits_4 := dk_seg dksX6_splits_3 23 rfl rfl
theorem dksX6_splits_5 : cX6_splits.data.toList.drop 114 = dktX6_splits_5 := dk_seg dksX6_splits_4 23 rfl rfl
theorem dksX6_splits_6 : cX6_splits.data.toList.drop 138 = dktX6_splits_6 := dk_seg dksX6_splits_5 24 rfl rfl
theorem dksX6_splits_7 : cX6_splits.data.toList.drop 162 = dktX6_splits_7 := dk_seg dksX6_splits_6 24 rfl rfl
theorem dksX6_splits_8 : cX6_splits.data.toList.drop 185 = dktX6_splits_8 := dk_seg dksX6_splits_7 23 rfl rfl
theorem dksX6_splits_9 : cX6_splits.data.toList.drop 208 = dktX6_splits_9 := dk_seg dksX6_splits_8 23 rfl rfl
theorem dX6_splits_0 : decode cX6_splits 0 = .ok (.iconst 0, 1) := dk_3 (dk_at dksX6_splits_0 0 rfl rfl)
theorem dX6_splits_1 : decode cX6_splits 1 = .ok (.istore 6, 2) := dk_54 6 (dk_at dksX6_splits_0 1 rfl rfl)
theorem dX6_splits_3 : decode cX6_splits 3 = .ok (.iconst 0, 1) := dk_3 (dk_at dksX6_splits_0 3 rfl rfl)
theorem dX6_splits_4 : decode cX6_splits 4 = .ok (.istore 7, 2) := dk_54 7 (dk_at dksX6_splits_0 4 rfl rfl)
theorem dX6_splits_6 : decode cX6_splits 6 = .ok (.iload 7, 2) := dk_21 7 (dk_at dksX6_splits_0 6 rfl rfl)
theorem dX6_splits_8 : decode cX6_splits 8 = .ok (.iconst 4, 1) := dk_7 (dk_at dksX6_splits_0 8 rfl rfl)
theorem dX6_splits_9 : decode cX6_splits 9 = .ok (.if_icmp .ge 31, 3) := dk_162 0 31 (dk_at dksX6_splits_0 9 rfl rfl)
theorem dX6_splits_12 : decode cX6_splits 12 = .ok (.iload 6, 2) := dk_21 6 (dk_at dksX6_splits_0 12 rfl rfl)
theorem dX6_splits_14 : decode cX6_splits 14 = .ok (.aload_n 0, 1) := dk_42 (dk_at dksX6_splits_0 14 rfl rfl)
theorem dX6_splits_15 : decode cX6_splits 15 = .ok (.iload_n 3, 1) := dk_29 (dk_at dksX6_splits_0 15 rfl rfl)
theorem dX6_splits_16 : decode cX6_splits 16 = .ok (.iload 7, 2) := dk_21 7 (dk_at dksX6_splits_0 16 rfl rfl)
theorem dX6_splits_18 : decode cX6_splits 18 = .ok (.invokevirtual 78, 3) := dk_182 0 78 (dk_at dksX6_splits_0 18 rfl rfl)
theorem dX6_splits_21 : decode cX6_splits 21 = .ok (.iload 4, 2) := dk_21 4 (dk_at dksX6_splits_0 21 rfl rfl)
theorem dX6_splits_23 : decode cX6_splits 23 = .ok (.if_icmp .ge 7, 3) := dk_162 0 7 (dk_at dksX6_splits_1 0 rfl rfl)
theorem dX6_splits_26 : decode cX6_splits 26 = .ok (.iconst 1, 1) := dk_4 (dk_at dksX6_splits_1 3 rfl rfl)
theorem dX6_splits_27 : decode cX6_splits 27 = .ok (.goto 4, 3) := dk_167 0 4 (dk_at dksX6_splits_1 4 rfl rfl)
theorem dX6_splits_30 : decode cX6_splits 30 = .ok (.iconst 0, 1) := dk_3 (dk_at dksX6_splits_1 7 rfl rfl)
theorem dX6_splits_31 : decode cX6_splits 31 = .ok (.iadd, 1) := dk_96 (dk_at dksX6_splits_1 8 rfl rfl)
theorem dX6_splits_32 : decode cX6_splits 32 = .ok (.istore 6, 2) := dk_54 6 (dk_at dksX6_splits_1 9 rfl rfl)
theorem dX6_splits_34 : decode cX6_splits 34 = .ok (.iinc 7 1, 3) := dk_132 7 1 (dk_at dksX6_splits_1 11 rfl rfl)
theorem dX6_splits_37 : decode cX6_splits 37 = .ok (.goto (-31), 3) := dk_167 255 225 (dk_at dksX6_splits_1 14 rfl rfl)
theorem dX6_splits_40 : decode cX6_splits 40 = .ok (.iconst 0, 1) := dk_3 (dk_at dksX6_splits_1 17 rfl rfl)
theorem dX6_splits_41 : decode cX6_splits 41 = .ok (.istore 7, 2) := dk_54 7 (dk_at dksX6_splits_1 18 rfl rfl)
theorem dX6_splits_43 : decode cX6_splits 43 = .ok (.iload 7, 2) := dk_21 7 (dk_at dksX6_splits_1 20 rfl rfl)
theorem dX6_splits_45 : decode cX6_splits 45 = .ok (.iconst 5, 1) := dk_8 (dk_at dksX6_splits_1 22 rfl rfl)
theorem dX6_splits_46 : decode cX6_splits 46 = .ok (.if_icmp .ge 85, 3) := dk_162 0 85 (dk_at dksX6_splits_2 0 rfl rfl)
theorem dX6_splits_49 : decode cX6_splits 49 = .ok (.iload 7, 2) := dk_21 7 (dk_at dksX6_splits_2 3 rfl rfl)
theorem dX6_splits_51 : decode cX6_splits 51 = .ok (.iload 6, 2) := dk_21 6 (dk_at dksX6_splits_2 5 rfl rfl)
theorem dX6_splits_53 : decode cX6_splits 53 = .ok (.if_icmp .ge 8, 3) := dk_162 0 8 (dk_at dksX6_splits_2 7 rfl rfl)
theorem dX6_splits_56 : decode cX6_splits 56 = .ok (.iload 7, 2) := dk_21 7 (dk_at dksX6_splits_2 10 rfl rfl)
theorem dX6_splits_58 : decode cX6_splits 58 = .ok (.goto 7, 3) := dk_167 0 7 (dk_at dksX6_splits_2 12 rfl rfl)
theorem dX6_splits_61 : decode cX6_splits 61 = .ok (.iload 7, 2) := dk_21 7 (dk_at dksX6_splits_2 15 rfl rfl)
theorem dX6_splits_63 : decode cX6_splits 63 = .ok (.iconst 1, 1) := dk_4 (dk_at dksX6_splits_2 17 rfl rfl)
theorem dX6_splits_64 : decode cX6_splits 64 = .ok (.isub, 1) := dk_100 (dk_at dksX6_splits_2 18 rfl rfl)
theorem dX6_splits_65 : decode cX6_splits 65 = .ok (.istore 8, 2) := dk_54 8 (dk_at dksX6_splits_2 19 rfl rfl)
theorem dX6_splits_67 : decode cX6_splits 67 = .ok (.aload_n 0, 1) := dk_42 (dk_at dksX6_splits_2 21 rfl rfl)
theorem dX6_splits_68 : decode cX6_splits 68 = .ok (.getfield 22, 3) := dk_180 0 22 (dk_at dksX6_splits_3 0 rfl rfl)
theorem dX6_splits_71 : decode cX6_splits 71 = .ok (.iconst 2, 1) := dk_5 (dk_at dksX6_splits_3 3 rfl rfl)
theorem dX6_splits_72 : decode cX6_splits 72 = .ok (.iload 7, 2) := dk_21 7 (dk_at dksX6_splits_3 4 rfl rfl)
theorem dX6_splits_74 : decode cX6_splits 74 = .ok (.imul, 1) := dk_104 (dk_at dksX6_splits_3 6 rfl rfl)
theorem dX6_splits_75 : decode cX6_splits 75 = .ok (.iload 7, 2) := dk_21 7 (dk_at dksX6_splits_3 7 rfl rfl)
theorem dX6_splits_77 : decode cX6_splits 77 = .ok (.iload 6, 2) := dk_21 6 (dk_at dksX6_splits_3 9 rfl rfl)
theorem dX6_splits_79 : decode cX6_splits 79 = .ok (.if_icmp .ne 8, 3) := dk_160 0 8 (dk_at dksX6_splits_3 11 rfl rfl)
theorem dX6_splits_82 : decode cX6_splits 82 = .ok (.iload 4, 2) := dk_21 4 (dk_at dksX6_splits_3 14 rfl rfl)
theorem dX6_splits_84 : decode cX6_splits 84 = .ok (.goto 10, 3) := dk_167 0 10 (dk_at dksX6_splits_3 16 rfl rfl)
theorem dX6_splits_87 : decode cX6_splits 87 = .ok (.aload_n 0, 1) := dk_42 (dk_at dksX6_splits_3 19 rfl rfl)
theorem dX6_splits_88 : decode cX6_splits 88 = .ok (.iload_n 3, 1) := dk_29 (dk_at dksX6_splits_3 20 rfl rfl)
theorem dX6_splits_89 : decode cX6_splits 89 = .ok (.iload 8, 2) := dk_21 8 (dk_at dksX6_splits_3 21 rfl rfl)
theorem dX6_splits_91 : decode cX6_splits 91 = .ok (.invokevirtual 78, 3) := dk_182 0 78 (dk_at dksX6_splits_4 0 rfl rfl)
theorem dX6_splits_94 : decode cX6_splits 94 = .ok (.iastore, 1) := dk_79 (dk_at dksX6_splits_4 3 rfl rfl)
theorem dX6_splits_95 : decode cX6_splits 95 = .ok (.aload_n 0, 1) := dk_42 (dk_at dksX6_splits_4 4 rfl rfl)
theorem dX6_splits_96 : decode cX6_splits 96 = .ok (.getfield 22, 3) := dk_180 0 22 (dk_at dksX6_splits_4 5 rfl rfl)
theorem dX6_splits_99 : decode cX6_splits 99 = .ok (.iconst 2, 1) := dk_5 (dk_at dksX6_splits_4 8 rfl rfl)
theorem dX6_splits_100 : decode cX6_splits 100 = .ok (.iload 7, 2) := dk_21 7 (dk_at dksX6_splits_4 9 rfl rfl)
theorem dX6_splits_102 : decode cX6_splits 102 = .ok (.imul, 1) := dk_104 (dk_at dksX6_splits_4 11 rfl rfl)
theorem dX6_splits_103 : decode cX6_splits 103 = .ok (.iconst 1, 1) := dk_4 (dk_at dksX6_splits_4 12 rfl rfl)
theorem dX6_splits_104 : decode cX6_splits 104 = .ok (.iadd, 1) := dk_96 (dk_at dksX6_splits_4 13 rfl rfl)
theorem dX6_splits_105 : decode cX6_splits 105 = .ok (.iload 7, 2) := dk_21 7 (dk_at dksX6_splits_4 14 rfl rfl)
theorem dX6_splits_107 : decode cX6_splits 107 = .ok (.iload 6, 2) := dk_21 6 (dk_at dksX6_splits_4 16 rfl rfl)
theorem dX6_splits_109 : decode cX6_splits 109 = .ok (.if_icmp .ne 8, 3) := dk_160 0 8 (dk_at dksX6_splits_4 18 rfl rfl)
theorem dX6_splits_112 : decode cX6_splits 112 = .ok (.iload 5, 2) := dk_21 5 (dk_at dksX6_splits_4 21 rfl rfl)
theorem dX6_splits_114 : decode cX6_splits 114 = .ok (.goto 10, 3) := dk_167 0 10 (dk_at dksX6_splits_5 0 rfl rfl)
theorem dX6_splits_117 : decode cX6_splits 117 = .ok (.aload_n 0, 1) := dk_42 (dk_at dksX6_splits_5 3 rfl rfl)
theorem dX6_splits_118 : decode cX6_splits 118 = .ok (.iload_n 3, 1) := dk_29 (dk_at dksX6_splits_5 4 rfl rfl)
theorem dX6_splits_119 : decode cX6_splits 119 = .ok (.iload 8, 2) := dk_21 8 (dk_at dksX6_splits_5 5 rfl rfl)
theorem dX6_splits_121 : decode cX6_splits 121 = .ok (.invokevirtual 87, 3) := dk_182 0 87 (dk_at dksX6_splits_5 7 rfl rfl)
theorem dX6_splits_124 : decode cX6_splits 124 = .ok (.iastore, 1) := dk_79 (dk_at dksX6_splits_5 10 rfl rfl)
theorem dX6_splits_125 : decode cX6_splits 125 = .ok (.iinc 7 1, 3) := dk_132 7 1 (dk_at dksX6_splits_5 11 rfl rfl)
theorem dX6_splits_128 : decode cX6_splits 128 = .ok (.goto (-85), 3) := dk_167 255 171 (dk_at dksX6_splits_5 14 rfl rfl)
theorem dX6_splits_131 : decode cX6_splits 131 = .ok (.aload_n 0, 1) := dk_42 (dk_at dksX6_splits_5 17 rfl rfl)
theorem dX6_splits_132 : decode cX6_splits 132 = .ok (.iconst 0, 1) := dk_3 (dk_at dksX6_splits_5 18 rfl rfl)
theorem dX6_splits_133 : decode cX6_splits 133 = .ok (.invokevirtual 96, 3) := dk_182 0 96 (dk_at dksX6_splits_5 19 rfl rfl)
theorem dX6_splits_136 : decode cX6_splits 136 = .ok (.istore 7, 2) := dk_54 7 (dk_at dksX6_splits_5 22 rfl rfl)
theorem dX6_splits_138 : decode cX6_splits 138 = .ok (.iconst 0, 1) := dk_3 (dk_at dksX6_splits_6 0 rfl rfl)
theorem dX6_splits_139 : decode cX6_splits 139 = .ok (.istore 8, 2) := dk_54 8 (dk_at dksX6_splits_6 1 rfl rfl)
theorem dX6_splits_141 : decode cX6_splits 141 = .ok (.iload 8, 2) := dk_21 8 (dk_at dksX6_splits_6 3 rfl rfl)
theorem dX6_splits_143 : decode cX6_splits 143 = .ok (.iconst 5, 1) := dk_8 (dk_at dksX6_splits_6 5 rfl rfl)
theorem dX6_splits_144 : decode cX6_splits 144 = .ok (.if_icmp .ge 60, 3) := dk_162 0 60 (dk_at dksX6_splits_6 6 rfl rfl)
theorem dX6_splits_147 : decode cX6_splits 147 = .ok (.aload_n 0, 1) := dk_42 (dk_at dksX6_splits_6 9 rfl rfl)
theorem dX6_splits_148 : decode cX6_splits 148 = .ok (.iload 8, 2) := dk_21 8 (dk_at dksX6_splits_6 10 rfl rfl)
theorem dX6_splits_150 : decode cX6_splits 150 = .ok (.iconst 3, 1) := dk_6 (dk_at dksX6_splits_6 12 rfl rfl)
theorem dX6_splits_151 : decode cX6_splits 151 = .ok (.if_icmp .ge 7, 3) := dk_162 0 7 (dk_at dksX6_splits_6 13 rfl rfl)
theorem dX6_splits_154 : decode cX6_splits 154 = .ok (.iload_n 3, 1) := dk_29 (dk_at dksX6_splits_6 16 rfl rfl)
theorem dX6_splits_155 : decode cX6_splits 155 = .ok (.goto 5, 3) := dk_167 0 5 (dk_at dksX6_splits_6 17 rfl rfl)
theorem dX6_splits_158 : decode cX6_splits 158 = .ok (.iload 7, 2) := dk_21 7 (dk_at dksX6_splits_6 20 rfl rfl)
theorem dX6_splits_160 : decode cX6_splits 160 = .ok (.iload 8, 2) := dk_21 8 (dk_at dksX6_splits_6 22 rfl rfl)
theorem dX6_splits_162 : decode cX6_splits 162 = .ok (.iconst 3, 1) := dk_6 (dk_at dksX6_splits_7 0 rfl rfl)
theorem dX6_splits_163 : decode cX6_splits 163 = .ok (.if_icmp .ge 8, 3) := dk_162 0 8 (dk_at dksX6_splits_7 1 rfl rfl)
theorem dX6_splits_166 : decode cX6_splits 166 = .ok (.iload 8, 2) := dk_21 8 (dk_at dksX6_splits_7 4 rfl rfl)
theorem dX6_splits_168 : decode cX6_splits 168 = .ok (.goto 7, 3) := dk_167 0 7 (dk_at dksX6_splits_7 6 rfl rfl)
theorem dX6_splits_171 : decode cX6_splits 171 = .ok (.iload 8, 2) := dk_21 8 (dk_at dksX6_splits_7 9 rfl rfl)
theorem dX6_splits_173 : decode cX6_splits 173 = .ok (.iconst 3, 1) := dk_6 (dk_at dksX6_splits_7 11 rfl rfl)
theorem dX6_splits_174 : decode cX6_splits 174 = .ok (.isub, 1) := dk_100 (dk_at dksX6_splits_7 12 rfl rfl)
theorem dX6_splits_175 : decode cX6_splits 175 = .ok (.aload_n 0, 1) := dk_42 (dk_at dksX6_splits_7 13 rfl rfl)
theorem dX6_splits_176 : decode cX6_splits 176 = .ok (.getfield 22, 3) := dk_180 0 22 (dk_at dksX6_splits_7 14 rfl rfl)
theorem dX6_splits_179 : decode cX6_splits 179 = .ok (.iconst 2, 1) := dk_5 (dk_at dksX6_splits_7 17 rfl rfl)
theorem dX6_splits_180 : decode cX6_splits 180 = .ok (.iload 8, 2) := dk_21 8 (dk_at dksX6_splits_7 18 rfl rfl)
theorem dX6_splits_182 : decode cX6_splits 182 = .ok (.imul, 1) := dk_104 (dk_at dksX6_splits_7 20 rfl rfl)
theorem dX6_splits_183 : decode cX6_splits 183 = .ok (.iaload, 1) := dk_46 (dk_at dksX6_splits_7 21 rfl rfl)
theorem dX6_splits_184 : decode cX6_splits 184 = .ok (.aload_n 0, 1) := dk_42 (dk_at dksX6_splits_7 22 rfl rfl)
theorem dX6_splits_185 : decode cX6_splits 185 = .ok (.getfield 22, 3) := dk_180 0 22 (dk_at dksX6_splits_8 0 rfl rfl)
theorem dX6_splits_188 : decode cX6_splits 188 = .ok (.iconst 2, 1) := dk_5 (dk_at dksX6_splits_8 3 rfl rfl)
theorem dX6_splits_189 : decode cX6_splits 189 = .ok (.iload 8, 2) := dk_21 8 (dk_at dksX6_splits_8 4 rfl rfl)
theorem dX6_splits_191 : decode cX6_splits 191 = .ok (.imul, 1) := dk_104 (dk_at dksX6_splits_8 6 rfl rfl)
theorem dX6_splits_192 : decode cX6_splits 192 = .ok (.iconst 1, 1) := dk_4 (dk_at dksX6_splits_8 7 rfl rfl)
theorem dX6_splits_193 : decode cX6_splits 193 = .ok (.iadd, 1) := dk_96 (dk_at dksX6_splits_8 8 rfl rfl)
theorem dX6_splits_194 : decode cX6_splits 194 = .ok (.iaload, 1) := dk_46 (dk_at dksX6_splits_8 9 rfl rfl)
theorem dX6_splits_195 : decode cX6_splits 195 = .ok (.invokevirtual 106, 3) := dk_182 0 106 (dk_at dksX6_splits_8 10 rfl rfl)
theorem dX6_splits_198 : decode cX6_splits 198 = .ok (.iinc 8 1, 3) := dk_132 8 1 (dk_at dksX6_splits_8 13 rfl rfl)
theorem dX6_splits_201 : decode cX6_splits 201 = .ok (.goto (-60), 3) := dk_167 255 196 (dk_at dksX6_splits_8 16 rfl rfl)
theorem dX6_splits_204 : decode cX6_splits 204 = .ok (.aload_n 0, 1) := dk_42 (dk_at dksX6_splits_8 19 rfl rfl)
theorem dX6_splits_205 : decode cX6_splits 205 = .ok (.iload_n 3, 1) := dk_29 (dk_at dksX6_splits_8 20 rfl rfl)
theorem dX6_splits_206 : decode cX6_splits 206 = .ok (.iconst 2, 1) := dk_5 (dk_at dksX6_splits_8 21 rfl rfl)
theorem dX6_splits_207 : decode cX6_splits 207 = .ok (.iconst 3, 1) := dk_6 (dk_at dksX6_splits_8 22 rfl rfl)
theorem dX6_splits_208 : decode cX6_splits 208 = .ok (.invokevirtual 67, 3) := dk_182 0 67 (dk_at dksX6_splits_9 0 rfl rfl)
theorem dX6_splits_211 : decode cX6_splits 211 = .ok (.aload_n 0, 1) := dk_42 (dk_at dksX6_splits_9 3 rfl rfl)
theorem dX6_splits_212 : decode cX6_splits 212 = .ok (.iload 7, 2) := dk_21 7 (dk_at dksX6_splits_9 4 rfl rfl)
theorem dX6_splits_214 : decode cX6_splits 214 = .ok (.iconst 2, 1) := dk_5 (dk_at dksX6_splits_9 6 rfl rfl)
theorem dX6_splits_215 : decode cX6_splits 215 = .ok (.iconst 2, 1) := dk_5 (dk_at dksX6_splits_9 7 rfl rfl)
theorem dX6_splits_216 : decode cX6_splits 216 = .ok (.invokevirtual 67, 3) := dk_182 0 67 (dk_at dksX6_splits_9 8 rfl rfl)
theorem dX6_splits_219 : decode cX6_splits 219 = .ok (.aload_n 0, 1) := dk_42 (dk_at dksX6_splits_9 11 rfl rfl)
theorem dX6_splits_220 : decode cX6_splits 220 = .ok (.iload_n 1, 1) := dk_27 (dk_at dksX6_splits_9 12 rfl rfl)
theorem dX6_splits_221 : decode cX6_splits 221 = .ok (.iload_n 2, 1) := dk_28 (dk_at dksX6_splits_9 13 rfl rfl)
theorem dX6_splits_222 : decode cX6_splits 222 = .ok (.iconst 1, 1) := dk_4 (dk_at dksX6_splits_9 14 rfl rfl)
theorem dX6_splits_223 : decode cX6_splits 223 = .ok (.iadd, 1) := dk_96 (dk_at dksX6_splits_9 15 rfl rfl)
theorem dX6_splits_224 : decode cX6_splits 224 = .ok (.iload 7, 2) := dk_21 7 (dk_at dksX6_splits_9 16 rfl rfl)
theorem dX6_splits_226 : decode cX6_splits 226 = .ok (.invokevirtual 110, 3) := dk_182 0 110 (dk_at dksX6_splits_9 18 rfl rfl)
theorem dX6_splits_229 : decode cX6_splits 229 = .ok (.return_, 1) := dk_177 (dk_at dksX6_splits_9 21 rfl rfl)
/-! PageGardenModel.splits(IIIII)V -/
abbrev M_X6_splits (z0 n0 : Nat) (s' : gS) : gM := (RX6, cX6_splits, 9, none, "splits", [], 6, z0, n0, s'.2.1, s'.2.2)
abbrev W_X6_splits (E : gE) (z0 n0 : Nat) (r : Unit) (s' : gS) (pc : Nat) (L : List (Nat × gV)) (st : List gV) (s : gS) : Prop := gW E (M_X6_splits z0 n0 s') (gQm E (M_X6_splits z0 n0 s') (.inl none) s') pc L st s
noncomputable def f_X6_splits_31 (κ : gK) (F : Nat) (k6 : Option Nat → Int32 → Int32 → Int32 → Int32 → Int32 → Int32 → Int32 → gS → Option (Unit × gS)) (l0 : Option Nat) (l1 : Int32) (l2 : Int32) (l3 : Int32) (l4 : Int32) (l5 : Int32) (l7 : Int32) (t0 : Int32) (t1 : Int32) (s : gS) : Option (Unit × gS) :=
  k6 l0 l1 l2 l3 l4 l5 (t0 + t1) (l7 + (1 : Int32)) s
set_option maxHeartbeats 4000000 in
theorem w_X6_splits_31 {E : gE} {F z0 n0 : Nat} {r : Unit} {s' : gS} {k6 : Option Nat → Int32 → Int32 → Int32 → Int32 → Int32 → Int32 → Int32 → gS → Option (Unit × gS)} (hk6 : ∀ (l0 : Option Nat) (l1 : Int32) (l2 : Int32) (l3 : Int32) (l4 : Int32) (l5 : Int32) (l6 : Int32) (l7 : Int32) (s : gS), k6 l0 l1 l2 l3 l4 l5 l6 l7 s = some (r, s') → W_X6_splits E z0 n0 r s' 6 [(0, vR l0), (1, vI l1), (2, vI l2), (3, vI l3), (4, vI l4), (5, vI l5), (6, vI l6), (7, vI l7)] [] s) : ∀ (l0 : Option Nat) (l1 : Int32) (l2 : Int32) (l3 : Int32) (l4 : Int32) (l5 : Int32) (l7 : Int32) (t0 : Int32) (t1 : Int32) (s : gS), f_X6_splits_31 (gk E) F k6 l0 l1 l2 l3 l4 l5 l7 t0 t1 s = some (r, s') → W_X6_splits E z0 n0 r s' 31 [(0, vR l0), (1, vI l1), (2, vI l2), (3, vI l3), (4, vI l4), (5, vI l5), (7, vI l7)] [vI t1, vI t0] s := by
  intro l0 l1 l2 l3 l4 l5 l7 t0 t1 s hB
  unfold f_X6_splits_31 at hB
  refine gw_iadd dX6_splits_31 ?_
  refine gw_istore (L' := [(6, vI (t0 + t1)), (0, vR l0), (1, vI l1), (2, vI l2), (3, vI l3), (4, vI l4), (5, vI l5), (7, vI l7)]) (Nat.le_of_ble_eq_true rfl) rfl dX6_splits_32 ?_
  refine gw_iinc (w := (1 : Int32)) (L' := [(7, vI (l7 + (1 : Int32))), (6, vI (t0 + t1)), (0, vR l0), (1, vI l1), (2, vI l2), (3, vI l3), (4, vI l4), (5, vI l5)]) 7 rfl (by decide) (Nat.le_of_ble_eq_true rfl) rfl dX6_splits_34 ?_
  refine gw_goto (tgt := 6) dX6_splits_37 (by decide) ?_
  exact gw_sub [2, 3, 4, 5, 6, 7, 1, 0] rfl (hk6 _ _ _ _ _ _ _ _ _ hB)
noncomputable def f_X6_splits_124 (κ : gK) (F : Nat) (k43 : Option Nat → Int32 → Int32 → Int32 → Int32 → Int32 → Int32 → Int32 → gS → Option (Unit × gS)) (l0 : Option Nat) (l1 : Int32) (l2 : Int32) (l3 : Int32) (l4 : Int32) (l5 : Int32) (l6 : Int32) (l7 : Int32) (t0 : Option Nat) (t1 : Int32) (t2 : Int32) (s : gS) : Option (Unit × gS) :=
  gB1 (gsI κ s t0 t1 t2) fun s1 =>
  k43 l0 l1 l2 l3 l4 l5 l6 (l7 + (1 : Int32)) s1
set_option maxHeartbeats 4000000 in
theorem w_X6_splits_124 {E : gE} {F z0 n0 : Nat} {r : Unit} {s' : gS} {k43 : Option Nat → Int32 → Int32 → Int32 → Int32 → Int32 → Int32 → Int32 → gS → Option (Unit × gS)} (hk43 : ∀ (l0 : Option Nat) (l1 : Int32) (l2 : Int32) (l3 : Int32) (l4 : Int32) (l5 : Int32) (l6 : Int32) (l7 : Int32) (s : gS), k43 l0 l1 l2 l3 l4 l5 l6 l7 s = some (r, s') → W_X6_splits E z0 n0 r s' 43 [(0, vR l0), (1, vI l1), (2, vI l2), (3, vI l3), (4, vI l4), (5, vI l5), (6, vI l6), (7, vI l7)] [] s) : ∀ (l0 : Option Nat) (l1 : Int32) (l2 : Int32) (l3 : Int32) (l4 : Int32) (l5 : Int32) (l6 : Int32) (l7 : Int32) (t0 : Option Nat) (t1 : Int32) (t2 : Int32) (s : gS), f_X6_splits_124 (gk E) F k43 l0 l1 l2 l3 l4 l5 l6 l7 t0 t1 t2 s = some (r, s') → W_X6_splits E z0 n0 r s' 124 [(0, vR l0), (1, vI l1), (2, vI l2), (3, vI l3), (4, vI l4), (5, vI l5), (6, vI l6), (7, vI l7)] [vI t2, vI t1, vR t0] s := by
  intro l0 l1 l2 l3 l4 l5 l6 l7 t0 t1 t2 s hB
  unfold f_X6_splits_124 at hB
  obtain ⟨s1, hs1, hB⟩ := gB1_some hB
  refine gw_iastore hs1 dX6_splits_124 ?_
  refine gw_iinc (w := (1 : Int32)) (L' := [(7, vI (l7 + (1 : Int32))), (0, vR l0), (1, vI l1), (2, vI l2), (3, vI l3), (4, vI l4), (5, vI l5), (6, vI l6)]) 7 rfl (by decide) (Nat.le_of_ble_eq_true rfl) rfl dX6_splits_125 ?_
  refine gw_goto (tgt := 43) dX6_splits_128 (by decide) ?_
  exact gw_sub [1, 2, 3, 4, 5, 6, 7, 0] rfl (hk43 _ _ _ _ _ _ _ _ _ hB)
noncomputable def f_X6_splits_94 (κ : gK) (F : Nat) (k43 : Option Nat → Int32 → Int32 → Int32 → Int32 → Int32 → Int32 → Int32 → gS → Option (Unit × gS)) (l0 : Option Nat) (l1 : Int32) (l2 : Int32) (l3 : Int32) (l4 : Int32) (l5 : Int32) (l6 : Int32) (l7 : Int32) (l8 : Int32) (t0 : Option Nat) (t1 : Int32) (t2 : Int32) (s : gS) : Option (Unit × gS) :=
  gB1 (gsI κ s t0 t1 t2) fun s1 =>
  gB1 (gfR s1 l0 9 8) fun v2 =>
  if l7 = l6 then
    f_X6_splits_124 κ F k43 l0 l1 l2 l3 l4 l5 l6 l7 v2 (((2 : Int32) * l7) + (1 : Int32)) l5 s1
  else
    gB1 (gck s1 l0 9) fun _ =>
    gB2 (f_X6_valueAt κ F l0 l3 l8 s1) fun v4 s3 =>
    f_X6_splits_124 κ F k43 l0 l1 l2 l3 l4 l5 l6 l7 v2 (((2 : Int32) * l7) + (1 : Int32)) v4 s3
set_option maxHeartbeats 4000000 in
theorem w_X6_splits_94 {E : gE} {F z0 n0 : Nat} {r : Unit} {s' : gS} {k43 : Option Nat → Int32 → Int32 → Int32 → Int32 → Int32 → Int32 → Int32 → gS → Option (Unit × gS)} (hk43 : ∀ (l0 : Option Nat) (l1 : Int32) (l2 : Int32) (l3 : Int32) (l4 : Int32) (l5 : Int32) (l6 : Int32) (l7 : Int32) (s : gS), k43 l0 l1 l2 l3 l4 l5 l6 l7 s = some (r, s') → W_X6_splits E z0 n0 r s' 43 [(0, vR l0), (1, vI l1), (2, vI l2), (3, vI l3), (4, vI l4), (5, vI l5), (6, vI l6), (7, vI l7)] [] s) : ∀ (l0 : Option Nat) (l1 : Int32) (l2 : Int32) (l3 : Int32) (l4 : Int32) (l5 : Int32) (l6 : Int32) (l7 : Int32) (l8 : Int32) (t0 : Option Nat) (t1 : Int32) (t2 : Int32) (s : gS), f_X6_splits_94 (gk E) F k43 l0 l1 l2 l3 l4 l5 l6 l7 l8 t0 t1 t2 s = some (r, s') → W_X6_splits E z0 n0 r s' 94 [(0, vR l0), (1, vI l1), (2, vI l2), (3, vI l3), (4, vI l4), (5, vI l5), (6, vI l6), (7, vI l7), (8, vI l8)] [vI t2, vI t1, vR t0] s := by
  intro l0 l1 l2 l3 l4 l5 l6 l7 l8 t0 t1 t2 s hB
  unfold f_X6_splits_94 at hB
  obtain ⟨s1, hs1, hB⟩ := gB1_some hB
  refine gw_iastore hs1 dX6_splits_94 ?_
  refine gw_aload_n 0 rfl dX6_splits_95 ?_
  obtain ⟨v2, hv2, hB⟩ := gB1_some hB
  refine gw_getf (C := RX6) (T := TX6) (N := 13) (k := 8) gcl9 (by decide) in_X6 q2702 (gfR_spec hv2) dX6_splits_96 ?_
  refine gw_iconst (v := (2 : Int32)) (by decide) dX6_splits_99 ?_
  refine gw_iload 7 rfl dX6_splits_100 ?_
  refine gw_imul dX6_splits_102 ?_
  refine gw_iconst (v := (1 : Int32)) (by decide) dX6_splits_103 ?_
  refine gw_iadd dX6_splits_104 ?_
  refine gw_iload 7 rfl dX6_splits_105 ?_
  refine gw_iload 6 rfl dX6_splits_107 ?_
  refine gw_icmp_ne (tgt := 117) dX6_splits_109 (by decide) (fun hcnd => ?_) (fun hcnd => ?_)
  · rw [if_neg hcnd] at hB
    refine gw_aload_n 0 rfl dX6_splits_117 ?_
    refine gw_iload_n 3 rfl dX6_splits_118 ?_
    refine gw_iload 8 rfl dX6_splits_119 ?_
    obtain ⟨u0, hu5, hB⟩ := gB1_some hB
    obtain ⟨v4, s3, hv4, hB⟩ := gB2_some hB
    refine gw_callV (y := yX6_valueAt) (lw_V q2860 q2862 qs74 q143 q2863) hdV_X6_valueAt gcl9 hu5 (As := [vI l3, vI l8]) (rest := [vI (((2 : Int32) * l7) + (1 : Int32)), vR v2]) (m_X6_valueAt _ _ _ _ _ _ hv4) (Nat.le_of_ble_eq_true rfl) (Nat.le_of_ble_eq_true rfl) rfl (Nat.le_of_ble_eq_true rfl) dX6_splits_121 (gCont_i ?_)
    exact gw_sub [0, 1, 2, 3, 4, 5, 6, 7] rfl (w_X6_splits_124 hk43 _ _ _ _ _ _ _ _ _ _ _ _ hB)
  · rw [if_pos hcnd] at hB
    refine gw_iload 5 rfl dX6_splits_112 ?_
    refine gw_goto (tgt := 124) dX6_splits_114 (by decide) ?_
    exact gw_sub [0, 1, 2, 3, 4, 5, 6, 7] rfl (w_X6_splits_124 hk43 _ _ _ _ _ _ _ _ _ _ _ _ hB)
noncomputable def f_X6_splits_65 (κ : gK) (F : Nat) (k43 : Option Nat → Int32 → Int32 → Int32 → Int32 → Int32 → Int32 → Int32 → gS → Option (Unit × gS)) (l0 : Option Nat) (l1 : Int32) (l2 : Int32) (l3 : Int32) (l4 : Int32) (l5 : Int32) (l6 : Int32) (l7 : Int32) (t0 : Int32) (s : gS) : Option (Unit × gS) :=
  gB1 (gfR s l0 9 8) fun v1 =>
  if l7 = l6 then
    f_X6_splits_94 κ F k43 l0 l1 l2 l3 l4 l5 l6 l7 t0 v1 ((2 : Int32) * l7) l4 s
  else
    gB1 (gck s l0 9) fun _ =>
    gB2 (f_X6_keyAt κ F l0 l3 t0 s) fun v3 s2 =>
    f_X6_splits_94 κ F k43 l0 l1 l2 l3 l4 l5 l6 l7 t0 v1 ((2 : Int32) * l7) v3 s2
set_option maxHeartbeats 4000000 in
theorem w_X6_splits_65 {E : gE} {F z0 n0 : Nat} {r : Unit} {s' : gS} {k43 : Option Nat → Int32 → Int32 → Int32 → Int32 → Int32 → Int32 → Int32 → gS → Option (Unit × gS)} (hk43 : ∀ (l0 : Option Nat) (l1 : Int32) (l2 : Int32) (l3 : Int32) (l4 : Int32) (l5 : Int32) (l6 : Int32) (l7 : Int32) (s : gS), k43 l0 l1 l2 l3 l4 l5 l6 l7 s = some (r, s') → W_X6_splits E z0 n0 r s' 43 [(0, vR l0), (1, vI l1), (2, vI l2), (3, vI l3), (4, vI l4), (5, vI l5), (6, vI l6), (7, vI l7)] [] s) : ∀ (l0 : Option Nat) (l1 : Int32) (l2 : Int32) (l3 : Int32) (l4 : Int32) (l5 : Int32) (l6 : Int32) (l7 : Int32) (t0 : Int32) (s : gS), f_X6_splits_65 (gk E) F k43 l0 l1 l2 l3 l4 l5 l6 l7 t0 s = some (r, s') → W_X6_splits E z0 n0 r s' 65 [(0, vR l0), (1, vI l1), (2, vI l2), (3, vI l3), (4, vI l4), (5, vI l5), (6, vI l6), (7, vI l7)] [vI t0] s := by
  intro l0 l1 l2 l3 l4 l5 l6 l7 t0 s hB
  unfold f_X6_splits_65 at hB
  refine gw_istore (L' := [(8, vI t0), (0, vR l0), (1, vI l1), (2, vI l2), (3, vI l3), (4, vI l4), (5, vI l5), (6, vI l6), (7, vI l7)]) (Nat.le_of_ble_eq_true rfl) rfl dX6_splits_65 ?_
  refine gw_aload_n 1 rfl dX6_splits_67 ?_
  obtain ⟨v1, hv1, hB⟩ := gB1_some hB
  refine gw_getf (C := RX6) (T := TX6) (N := 13) (k := 8) gcl9 (by decide) in_X6 q2702 (gfR_spec hv1) dX6_splits_68 ?_
  refine gw_iconst (v := (2 : Int32)) (by decide) dX6_splits_71 ?_
  refine gw_iload 8 rfl dX6_splits_72 ?_
  refine gw_imul dX6_splits_74 ?_
  refine gw_iload 8 rfl dX6_splits_75 ?_
  refine gw_iload 7 rfl dX6_splits_77 ?_
  refine gw_icmp_ne (tgt := 87) dX6_splits_79 (by decide) (fun hcnd => ?_) (fun hcnd => ?_)
  · rw [if_neg hcnd] at hB
    refine gw_aload_n 1 rfl dX6_splits_87 ?_
    refine gw_iload_n 4 rfl dX6_splits_88 ?_
    refine gw_iload 0 rfl dX6_splits_89 ?_
    obtain ⟨u0, hu4, hB⟩ := gB1_some hB
    obtain ⟨v3, s2, hv3, hB⟩ := gB2_some hB
    refine gw_callV (y := yX6_keyAt) (lw_V q2804 q2806 qs60 q143 q2807) hdV_X6_keyAt gcl9 hu4 (As := [vI l3, vI t0]) (rest := [vI ((2 : Int32) * l7), vR v1]) (m_X6_keyAt _ _ _ _ _ _ hv3) (Nat.le_of_ble_eq_true rfl) (Nat.le_of_ble_eq_true rfl) rfl (Nat.le_of_ble_eq_true rfl) dX6_splits_91 (gCont_i ?_)
    exact gw_sub [1, 2, 3, 4, 5, 6, 7, 8, 0] rfl (w_X6_splits_94 hk43 _ _ _ _ _ _ _ _ _ _ _ _ _ hB)
  · rw [if_pos hcnd] at hB
    refine gw_iload 5 rfl dX6_splits_82 ?_
    refine gw_goto (tgt := 94) dX6_splits_84 (by decide) ?_
    exact gw_sub [1, 2, 3, 4, 5, 6, 7, 8, 0] rfl (w_X6_splits_94 hk43 _ _ _ _ _ _ _ _ _ _ _ _ _ hB)
noncomputable def f_X6_splits_175 (κ : gK) (F : Nat) (k141 : Option Nat → Int32 → Int32 → Int32 → Int32 → Int32 → gS → Option (Unit × gS)) (l0 : Option Nat) (l1 : Int32) (l2 : Int32) (l3 : Int32) (l7 : Int32) (l8 : Int32) (t0 : Option Nat) (t1 : Int32) (t2 : Int32) (s : gS) : Option (Unit × gS) :=
  gB1 (gfR s l0 9 8) fun v1 =>
  gB1 (gaI s v1 0 ((2 : Int32) * l8)) fun v2 =>
  gB1 (gfR s l0 9 8) fun v3 =>
  gB1 (gaI s v3 0 (((2 : Int32) * l8) + (1 : Int32))) fun v4 =>
  gB1 (gck s t0 9) fun _ =>
  gB2 (f_X6_setEntry κ F t0 t1 t2 v2 v4 s) fun v6 s5 =>
  k141 l0 l1 l2 l3 l7 (l8 + (1 : Int32)) s5
set_option maxHeartbeats 4000000 in
theorem w_X6_splits_175 {E : gE} {F z0 n0 : Nat} {r : Unit} {s' : gS} {k141 : Option Nat → Int32 → Int32 → Int32 → Int32 → Int32 → gS → Option (Unit × gS)} (hk141 : ∀ (l0 : Option Nat) (l1 : Int32) (l2 : Int32) (l3 : Int32) (l7 : Int32) (l8 : Int32) (s : gS), k141 l0 l1 l2 l3 l7 l8 s = some (r, s') → W_X6_splits E z0 n0 r s' 141 [(0, vR l0), (1, vI l1), (2, vI l2), (3, vI l3), (7, vI l7), (8, vI l8)] [] s) : ∀ (l0 : Option Nat) (l1 : Int32) (l2 : Int32) (l3 : Int32) (l7 : Int32) (l8 : Int32) (t0 : Option Nat) (t1 : Int32) (t2 : Int32) (s : gS), f_X6_splits_175 (gk E) F k141 l0 l1 l2 l3 l7 l8 t0 t1 t2 s = some (r, s') → W_X6_splits E z0 n0 r s' 175 [(0, vR l0), (1, vI l1), (2, vI l2), (3, vI l3), (7, vI l7), (8, vI l8)] [vI t2, vI t1, vR t0] s := by
  intro l0 l1 l2 l3 l7 l8 t0 t1 t2 s hB
  unfold f_X6_splits_175 at hB
  refine gw_aload_n 0 rfl dX6_splits_175 ?_
  obtain ⟨v1, hv1, hB⟩ := gB1_some hB
  refine gw_getf (C := RX6) (T := TX6) (N := 13) (k := 8) gcl9 (by decide) in_X6 q2702 (gfR_spec hv1) dX6_splits_176 ?_
  refine gw_iconst (v := (2 : Int32)) (by decide) dX6_splits_179 ?_
  refine gw_iload 5 rfl dX6_splits_180 ?_
  refine gw_imul dX6_splits_182 ?_
  obtain ⟨v2, hv2, hB⟩ := gB1_some hB
  refine gw_iaload hv2 dX6_splits_183 ?_
  refine gw_aload_n 0 rfl dX6_splits_184 ?_
  obtain ⟨v3, hv3, hB⟩ := gB1_some hB
  refine gw_getf (C := RX6) (T := TX6) (N := 13) (k := 8) gcl9 (by decide) in_X6 q2702 (gfR_spec hv3) dX6_splits_185 ?_
  refine gw_iconst (v := (2 : Int32)) (by decide) dX6_splits_188 ?_
  refine gw_iload 5 rfl dX6_splits_189 ?_
  refine gw_imul dX6_splits_191 ?_
  refine gw_iconst (v := (1 : Int32)) (by decide) dX6_splits_192 ?_
  refine gw_iadd dX6_splits_193 ?_
  obtain ⟨v4, hv4, hB⟩ := gB1_some hB
  refine gw_iaload hv4 dX6_splits_194 ?_
  obtain ⟨u0, hu7, hB⟩ := gB1_some hB
  obtain ⟨v6, s5, hv6, hB⟩ := gB2_some hB
  refine gw_callV (y := yX6_setEntry) (lw_V q2864 q2866 qs75 q143 q2867) hdV_X6_setEntry gcl9 hu7 (As := [vI t1, vI t2, vI v2, vI v4]) (rest := []) (m_X6_setEntry _ _ _ _ _ _ _ _ hv6) (Nat.le_of_ble_eq_true rfl) (Nat.le_of_ble_eq_true rfl) rfl (Nat.le_of_ble_eq_true rfl) dX6_splits_195 (gCont_v ?_)
  refine gw_iinc (w := (1 : Int32)) (L' := [(8, vI (l8 + (1 : Int32))), (0, vR l0), (1, vI l1), (2, vI l2), (3, vI l3), (7, vI l7)]) 5 rfl (by decide) (Nat.le_of_ble_eq_true rfl) rfl dX6_splits_198 ?_
  refine gw_goto (tgt := 141) dX6_splits_201 (by decide) ?_
  exact gw_sub [1, 2, 3, 4, 5, 0] rfl (hk141 _ _ _ _ _ _ _ hB)
noncomputable def f_X6_splits_160 (κ : gK) (F : Nat) (k141 : Option Nat → Int32 → Int32 → Int32 → Int32 → Int32 → gS → Option (Unit × gS)) (l0 : Option Nat) (l1 : Int32) (l2 : Int32) (l3 : Int32) (l7 : Int32) (l8 : Int32) (t0 : Option Nat) (t1 : Int32) (s : gS) : Option (Unit × gS) :=
  if (3 : Int32) ≤ l8 then
    f_X6_splits_175 κ F k141 l0 l1 l2 l3 l7 l8 t0 t1 (l8 - (3 : Int32)) s
  else
    f_X6_splits_175 κ F k141 l0 l1 l2 l3 l7 l8 t0 t1 l8 s
set_option maxHeartbeats 4000000 in
theorem w_X6_splits_160 {E : gE} {F z0 n0 : Nat} {r : Unit} {s' : gS} {k141 : Option Nat → Int32 → Int32 → Int32 → Int32 → Int32 → gS → Option (Unit × gS)} (hk141 : ∀ (l0 : Option Nat) (l1 : Int32) (l2 : Int32) (l3 : Int32) (l7 : Int32) (l8 : Int32) (s : gS), k141 l0 l1 l2 l3 l7 l8 s = some (r, s') → W_X6_splits E z0 n0 r s' 141 [(0, vR l0), (1, vI l1), (2, vI l2), (3, vI l3), (7, vI l7), (8, vI l8)] [] s) : ∀ (l0 : Option Nat) (l1 : Int32) (l2 : Int32) (l3 : Int32) (l7 : Int32) (l8 : Int32) (t0 : Option Nat) (t1 : Int32) (s : gS), f_X6_splits_160 (gk E) F k141 l0 l1 l2 l3 l7 l8 t0 t1 s = some (r, s') → W_X6_splits E z0 n0 r s' 160 [(0, vR l0), (1, vI l1), (2, vI l2), (3, vI l3), (7, vI l7), (8, vI l8)] [vI t1, vR t0] s := by
  intro l0 l1 l2 l3 l7 l8 t0 t1 s hB
  unfold f_X6_splits_160 at hB
  refine gw_iload 5 rfl dX6_splits_160 ?_
  refine gw_iconst (v := (3 : Int32)) (by decide) dX6_splits_162 ?_
  refine gw_icmp_ge (tgt := 171) dX6_splits_163 (by decide) (fun hcnd => ?_) (fun hcnd => ?_)
  · rw [if_pos hcnd] at hB
    refine gw_iload 5 rfl dX6_splits_171 ?_
    refine gw_iconst (v := (3 : Int32)) (by decide) dX6_splits_173 ?_
    refine gw_isub dX6_splits_174 ?_
    exact gw_sub [0, 1, 2, 3, 4, 5] rfl (w_X6_splits_175 hk141 _ _ _ _ _ _ _ _ _ _ hB)
  · rw [if_neg hcnd] at hB
    refine gw_iload 5 rfl dX6_splits_166 ?_
    refine gw_goto (tgt := 175) dX6_splits_168 (by decide) ?_
    exact gw_sub [0, 1, 2, 3, 4, 5] rfl (w_X6_splits_175 hk141 _ _ _ _ _ _ _ _ _ _ hB)
noncomputable def f_X6_splits_141b (κ : gK) (F : Nat) (k141 : Option Nat → Int32 → Int32 → Int32 → Int32 → Int32 → gS → Option (Unit × gS)) (l0 : Option Nat) (l1 : Int32) (l2 : Int32) (l3 : Int32) (l7 : Int32) (l8 : Int32) (s : gS) : Option (Unit × gS) :=
  if (5 : Int32) ≤ l8 then
    gB1 (gck s l0 9) fun _ =>
    gB2 (f_X6_lay κ F l0 l3 (2 : Int32) (3 : Int32) s) fun v2 s1 =>
    gB1 (gck s1 l0 9) fun _ =>
    gB2 (f_X6_lay κ F l0 l7 (2 : Int32) (2 : Int32) s1) fun v5 s4 =>
    gB1 (gck s4 l0 9) fun _ =>
    gB2 (f_X6_insertLeaf κ F l0 l1 (l2 + (1 : Int32)) l7 s4) fun v8 s7 =>
    some ((), s7)
  else
    if (3 : Int32) ≤ l8 then
      f_X6_splits_160 κ F k141 l0 l1 l2 l3 l7 l8 l0 l7 s
    else
      f_X6_splits_160 κ F k141 l0 l1 l2 l3 l7 l8 l0 l3 s
noncomputable def f_X6_splits_141 (κ : gK) (F : Nat)  : Nat → Option Nat → Int32 → Int32 → Int32 → Int32 → Int32 → gS → Option (Unit × gS)
  | 0 => fun _ _ _ _ _ _ _ => none
  | n + 1 => f_X6_splits_141b κ F  (f_X6_splits_141 κ F  n)
set_option maxHeartbeats 4000000 in
theorem w_X6_splits_141b {E : gE} {F z0 n0 : Nat} {r : Unit} {s' : gS} {k141 : Option Nat → Int32 → Int32 → Int32 → Int32 → Int32 → gS → Option (Unit × gS)} (hk141 : ∀ (l0 : Option Nat) (l1 : Int32) (l2 : Int32) (l3 : Int32) (l7 : Int32) (l8 : Int32) (s : gS), k141 l0 l1 l2 l3 l7 l8 s = some (r, s') → W_X6_splits E z0 n0 r s' 141 [(0, vR l0), (1, vI l1), (2, vI l2), (3, vI l3), (7, vI l7), (8, vI l8)] [] s) : ∀ (l0 : Option Nat) (l1 : Int32) (l2 : Int32) (l3 : Int32) (l7 : Int32) (l8 : Int32)  (s : gS), f_X6_splits_141b (gk E) F k141 l0 l1 l2 l3 l7 l8 s = some (r, s') → W_X6_splits E z0 n0 r s' 141 [(0, vR l0), (1, vI l1), (2, vI l2), (3, vI l3), (7, vI l7), (8, vI l8)] [] s := by
  intro l0 l1 l2 l3 l7 l8 s hB
  unfold f_X6_splits_141b at hB
  refine gw_iload 5 rfl dX6_splits_141 ?_
  refine gw_iconst (v := (5 : Int32)) (by decide) dX6_splits_143 ?_
  refine gw_icmp_ge (tgt := 204) dX6_splits_144 (by decide) (fun hcnd => ?_) (fun hcnd => ?_)
  · rw [if_pos hcnd] at hB
    refine gw_aload_n 0 rfl dX6_splits_204 ?_
    refine gw_iload_n 3 rfl dX6_splits_205 ?_
    refine gw_iconst (v := (2 : Int32)) (by decide) dX6_splits_206 ?_
    refine gw_iconst (v := (3 : Int32)) (by decide) dX6_splits_207 ?_
    obtain ⟨u0, hu3, hB⟩ := gB1_some hB
    obtain ⟨v2, s1, hv2, hB⟩ := gB2_some hB
    refine gw_callV (y := yX6_lay) (lw_V q2840 q2842 qs69 q143 q2843) hdV_X6_lay gcl9 hu3 (As := [vI l3, vI (2 : Int32), vI (3 : Int32)]) (rest := []) (m_X6_lay _ _ _ _ _ _ _ hv2) (Nat.le_of_ble_eq_true rfl) (Nat.le_of_ble_eq_true rfl) rfl (Nat.le_of_ble_eq_true rfl) dX6_splits_208 (gCont_v ?_)
    refine gw_aload_n 0 rfl dX6_splits_211 ?_
    refine gw_iload 4 rfl dX6_splits_212 ?_
    refine gw_iconst (v := (2 : Int32)) (by decide) dX6_splits_214 ?_
    refine gw_iconst (v := (2 : Int32)) (by decide) dX6_splits_215 ?_
    obtain ⟨u0, hu6, hB⟩ := gB1_some hB
    obtain ⟨v5, s4, hv5, hB⟩ := gB2_some hB
    refine gw_callV (y := yX6_lay) (lw_V q2840 q2842 qs69 q143 q2843) hdV_X6_lay gcl9 hu6 (As := [vI l7, vI (2 : Int32), vI (2 : Int32)]) (rest := []) (m_X6_lay _ _ _ _ _ _ _ hv5) (Nat.le_of_ble_eq_true rfl) (Nat.le_of_ble_eq_true rfl) rfl (Nat.le_of_ble_eq_true rfl) dX6_splits_216 (gCont_v ?_)
    refine gw_aload_n 0 rfl dX6_splits_219 ?_
    refine gw_iload_n 1 rfl dX6_splits_220 ?_
    refine gw_iload_n 2 rfl dX6_splits_221 ?_
    refine gw_iconst (v := (1 : Int32)) (by decide) dX6_splits_222 ?_
    refine gw_iadd dX6_splits_223 ?_
    refine gw_iload 4 rfl dX6_splits_224 ?_
    obtain ⟨u0, hu9, hB⟩ := gB1_some hB
    obtain ⟨v8, s7, hv8, hB⟩ := gB2_some hB
    refine gw_callV (y := yX6_insertLeaf) (lw_V q2868 q2870 qs76 q143 q2871) hdV_X6_insertLeaf gcl9 hu9 (As := [vI l1, vI (l2 + (1 : Int32)), vI l7]) (rest := []) (m_X6_insertLeaf _ _ _ _ _ _ _ hv8) (Nat.le_of_ble_eq_true rfl) (Nat.le_of_ble_eq_true rfl) rfl (Nat.le_of_ble_eq_true rfl) dX6_splits_226 (gCont_v ?_)
    obtain ⟨rfl, rfl⟩ := Prod.mk.inj (Option.some.inj hB)
    exact gw_vret rfl rfl rfl dX6_splits_229
  · rw [if_neg hcnd] at hB
    refine gw_aload_n 0 rfl dX6_splits_147 ?_
    refine gw_iload 5 rfl dX6_splits_148 ?_
    refine gw_iconst (v := (3 : Int32)) (by decide) dX6_splits_150 ?_
    refine gw_icmp_ge (tgt := 158) dX6_splits_151 (by decide) (fun hcnd => ?_) (fun hcnd => ?_)
    · rw [if_pos hcnd] at hB
      refine gw_iload 4 rfl dX6_splits_158 ?_
      exact gw_sub [0, 1, 2, 3, 4, 5] rfl (w_X6_splits_160 hk141 _ _ _ _ _ _ _ _ _ hB)
    · rw [if_neg hcnd] at hB
      refine gw_iload_n 3 rfl dX6_splits_154 ?_
      refine gw_goto (tgt := 160) dX6_splits_155 (by decide) ?_
      exact gw_sub [0, 1, 2, 3, 4, 5] rfl (w_X6_splits_160 hk141 _ _ _ _ _ _ _ _ _ hB)
theorem w_X6_splits_141 {E : gE} {F z0 n0 : Nat} {r : Unit} {s' : gS}   : ∀ (n : Nat) (l0 : Option Nat) (l1 : Int32) (l2 : Int32) (l3 : Int32) (l7 : Int32) (l8 : Int32)  (s : gS), f_X6_splits_141 (gk E) F  n l0 l1 l2 l3 l7 l8 s = some (r, s') → W_X6_splits E z0 n0 r s' 141 [(0, vR l0), (1, vI l1), (2, vI l2), (3, vI l3), (7, vI l7), (8, vI l8)] [] s := by
  intro n
  induction n with
  | zero => intro l0 l1 l2 l3 l7 l8 s hB; cases hB
  | succ n ih => intro l0 l1 l2 l3 l7 l8 s hB; exact w_X6_splits_141b ih l0 l1 l2 l3 l7 l8 s hB
noncomputable def f_X6_splits_43b (κ : gK) (F : Nat) (k43 : Option Nat → Int32 → Int32 → Int32 → Int32 → Int32 → Int32 → Int32 → gS → Option (Unit × gS)) (l0 : Option Nat) (l1 : Int32) (l2 : Int32) (l3 : Int32) (l4 : Int32) (l5 : Int32) (l6 : Int32) (l7 : Int32) (s : gS) : Option (Unit × gS) :=
  if (5 : Int32) ≤ l7 then
    gB1 (gck s l0 9) fun _ =>
    gB2 (f_X6_dig κ F l0 (0 : Int32) s) fun v2 s1 =>
    f_X6_splits_141 κ F  F l0 l1 l2 l3 v2 (0 : Int32) s1
  else
    if l6 ≤ l7 then
      f_X6_splits_65 κ F k43 l0 l1 l2 l3 l4 l5 l6 l7 (l7 - (1 : Int32)) s
    else
      f_X6_splits_65 κ F k43 l0 l1 l2 l3 l4 l5 l6 l7 l7 s
noncomputable def f_X6_splits_43 (κ : gK) (F : Nat)  : Nat → Option Nat → Int32 → Int32 → Int32 → Int32 → Int32 → Int32 → Int32 → gS → Option (Unit × gS)
  | 0 => fun _ _ _ _ _ _ _ _ _ => none
  | n + 1 => f_X6_splits_43b κ F  (f_X6_splits_43 κ F  n)
set_option maxHeartbeats 4000000 in
theorem w_X6_splits_43b {E : gE} {F z0 n0 : Nat} {r : Unit} {s' : gS} {k43 : Option Nat → Int32 → Int32 → Int32 → Int32 → Int32 → Int32 → Int32 → gS → Option (Unit × gS)} (hk43 : ∀ (l0 : Option Nat) (l1 : Int32) (l2 : Int32) (l3 : Int32) (l4 : Int32) (l5 : Int32) (l6 : Int32) (l7 : Int32) (s : gS), k43 l0 l1 l2 l3 l4 l5 l6 l7 s = some (r, s') → W_X6_splits E z0 n0 r s' 43 [(0, vR l0), (1, vI l1), (2, vI l2), (3, vI l3), (4, vI l4), (5, vI l5), (6, vI l6), (7, vI l7)] [] s) : ∀ (l0 : Option Nat) (l1 : Int32) (l2 : Int32) (l3 : Int32) (l4 : Int32) (l5 : Int32) (l6 : Int32) (l7 : Int32)  (s : gS), f_X6_splits_43b (gk E) F k43 l0 l1 l2 l3 l4 l5 l6 l7 s = some (r, s') → W_X6_splits E z0 n0 r s' 43 [(0, vR l0), (1, vI l1), (2, vI l2), (3, vI l3), (4, vI l4), (5, vI l5), (6, vI l6), (7, vI l7)] [] s := by
  intro l0 l1 l2 l3 l4 l5 l6 l7 s hB
  unfold f_X6_splits_43b at hB
  refine gw_iload 7 rfl dX6_splits_43 ?_
  refine gw_iconst (v := (5 : Int32)) (by decide) dX6_splits_45 ?_
  refine gw_icmp_ge (tgt := 131) dX6_splits_46 (by decide) (fun hcnd => ?_) (fun hcnd => ?_)
  · rw [if_pos hcnd] at hB
    refine gw_aload_n 0 rfl dX6_splits_131 ?_
    refine gw_iconst (v := (0 : Int32)) (by decide) dX6_splits_132 ?_
    obtain ⟨u0, hu3, hB⟩ := gB1_some hB
    obtain ⟨v2, s1, hv2, hB⟩ := gB2_some hB
    refine gw_callV (y := yX6_dig) (lw_V q2832 q2834 qs67 q143 q2835) hdV_X6_dig gcl9 hu3 (As := [vI (0 : Int32)]) (rest := []) (m_X6_dig _ _ _ _ _ hv2) (Nat.le_of_ble_eq_true rfl) (Nat.le_of_ble_eq_true rfl) rfl (Nat.le_of_ble_eq_true rfl) dX6_splits_133 (gCont_i ?_)
    refine gw_istore (L' := [(7, vI v2), (0, vR l0), (1, vI l1), (2, vI l2), (3, vI l3), (4, vI l4), (5, vI l5), (6, vI l6)]) (Nat.le_of_ble_eq_true rfl) rfl dX6_splits_136 ?_
    refine gw_iconst (v := (0 : Int32)) (by decide) dX6_splits_138 ?_
    refine gw_istore (L' := [(8, vI (0 : Int32)), (7, vI v2), (0, vR l0), (1, vI l1), (2, vI l2), (3, vI l3), (4, vI l4), (5, vI l5), (6, vI l6)]) (Nat.le_of_ble_eq_true rfl) rfl dX6_splits_139 ?_
    exact gw_sub [2, 3, 4, 5, 1, 0] rfl (w_X6_splits_141  F _ _ _ _ _ _ _ hB)
  · rw [if_neg hcnd] at hB
    refine gw_iload 7 rfl dX6_splits_49 ?_
    refine gw_iload 6 rfl dX6_splits_51 ?_
    refine gw_icmp_ge (tgt := 61) dX6_splits_53 (by decide) (fun hcnd => ?_) (fun hcnd => ?_)
    · rw [if_pos hcnd] at hB
      refine gw_iload 7 rfl dX6_splits_61 ?_
      refine gw_iconst (v := (1 : Int32)) (by decide) dX6_splits_63 ?_
      refine gw_isub dX6_splits_64 ?_
      exact gw_sub [0, 1, 2, 3, 4, 5, 6, 7] rfl (w_X6_splits_65 hk43 _ _ _ _ _ _ _ _ _ _ hB)
    · rw [if_neg hcnd] at hB
      refine gw_iload 7 rfl dX6_splits_56 ?_
      refine gw_goto (tgt := 65) dX6_splits_58 (by decide) ?_
      exact gw_sub [0, 1, 2, 3, 4, 5, 6, 7] rfl (w_X6_splits_65 hk43 _ _ _ _ _ _ _ _ _ _ hB)
theorem w_X6_splits_43 {E : gE} {F z0 n0 : Nat} {r : Unit} {s' : gS}   : ∀ (n : Nat) (l0 : Option Nat) (l1 : Int32) (l2 : Int32) (l3 : Int32) (l4 : Int32) (l5 : Int32) (l6 : Int32) (l7 : Int32)  (s : gS), f_X6_splits_43 (gk E) F  n l0 l1 l2 l3 l4 l5 l6 l7 s = some (r, s') → W_X6_splits E z0 n0 r s' 43 [(0, vR l0), (1, vI l1), (2, vI l2), (3, vI l3), (4, vI l4), (5, vI l5), (6, vI l6), (7, vI l7)] [] s := by
  intro n
  induction n with
  | zero => intro l0 l1 l2 l3 l4 l5 l6 l7 s hB; cases hB
  | succ n ih => intro l0 l1 l2 l3 l4 l5 l6 l7 s hB; exact w_X6_splits_43b ih l0 l1 l2 l3 l4 l5 l6 l7 s hB
noncomputable def f_X6_splits_6b (κ : gK) (F : Nat) (k6 : Option Nat → Int32 → Int32 → Int32 → Int32 → Int32 → Int32 → Int32 → gS → Option (Unit × gS)) (l0 : Option Nat) (l1 : Int32) (l2 : Int32) (l3 : Int32) (l4 : Int32) (l5 : Int32) (l6 : Int32) (l7 : Int32) (s : gS) : Option (Unit × gS) :=
  if (4 : Int32) ≤ l7 then
    f_X6_splits_43 κ F  F l0 l1 l2 l3 l4 l5 l6 (0 : Int32) s
  else
    gB1 (gck s l0 9) fun _ =>
    gB2 (f_X6_keyAt κ F l0 l3 l7 s) fun v2 s1 =>
    if l4 ≤ v2 then
      f_X6_splits_31 κ F k6 l0 l1 l2 l3 l4 l5 l7 l6 (0 : Int32) s1
    else
      f_X6_splits_31 κ F k6 l0 l1 l2 l3 l4 l5 l7 l6 (1 : Int32) s1
noncomputable def f_X6_splits_6 (κ : gK) (F : Nat)  : Nat → Option Nat → Int32 → Int32 → Int32 → Int32 → Int32 → Int32 → Int32 → gS → Option (Unit × gS)
  | 0 => fun _ _ _ _ _ _ _ _ _ => none
  | n + 1 => f_X6_splits_6b κ F  (f_X6_splits_6 κ F  n)
set_option maxHeartbeats 4000000 in
theorem w_X6_splits_6b {E : gE} {F z0 n0 : Nat} {r : Unit} {s' : gS} {k6 : Option Nat → Int32 → Int32 → Int32 → Int32 → Int32 → Int32 → Int32 → gS → Option (Unit × gS)} (hk6 : ∀ (l0 : Option Nat) (l1 : Int32) (l2 : Int32) (l3 : Int32) (l4 : Int32) (l5 : Int32) (l6 : Int32) (l7 : Int32) (s : gS), k6 l0 l1 l2 l3 l4 l5 l6 l7 s = some (r, s') → W_X6_splits E z0 n0 r s' 6 [(0, vR l0), (1, vI l1), (2, vI l2), (3, vI l3), (4, vI l4), (5, vI l5), (6, vI l6), (7, vI l7)] [] s) : ∀ (l0 : Option Nat) (l1 : Int32) (l2 : Int32) (l3 : Int32) (l4 : Int32) (l5 : Int32) (l6 : Int32) (l7 : Int32)  (s : gS), f_X6_splits_6b (gk E) F k6 l0 l1 l2 l3 l4 l5 l6 l7 s = some (r, s') → W_X6_splits E z0 n0 r s' 6 [(0, vR l0), (1, vI l1), (2, vI l2), (3, vI l3), (4, vI l4), (5, vI l5), (6, vI l6), (7, vI l7)] [] s := by
  intro l0 l1 l2 l3 l4 l5 l6 l7 s hB
  unfold f_X6_splits_6b at hB
  refine gw_iload 7 rfl dX6_splits_6 ?_
  refine gw_iconst (v := (4 : Int32)) (by decide) dX6_splits_8 ?_
  refine gw_icmp_ge (tgt := 40) dX6_splits_9 (by decide) (fun hcnd => ?_) (fun hcnd => ?_)
  · rw [if_pos hcnd] at hB
    refine gw_iconst (v := (0 : Int32)) (by decide) dX6_splits_40 ?_
    refine gw_istore (L' := [(7, vI (0 : Int32)), (0, vR l0), (1, vI l1), (2, vI l2), (3, vI l3), (4, vI l4), (5, vI l5), (6, vI l6)]) (Nat.le_of_ble_eq_true rfl) rfl dX6_splits_41 ?_
    exact gw_sub [1, 2, 3, 4, 5, 6, 7, 0] rfl (w_X6_splits_43  F _ _ _ _ _ _ _ _ _ hB)
  · rw [if_neg hcnd] at hB
    refine gw_iload 6 rfl dX6_splits_12 ?_
    refine gw_aload_n 0 rfl dX6_splits_14 ?_
    refine gw_iload_n 3 rfl dX6_splits_15 ?_
    refine gw_iload 7 rfl dX6_splits_16 ?_
    obtain ⟨u0, hu3, hB⟩ := gB1_some hB
    obtain ⟨v2, s1, hv2, hB⟩ := gB2_some hB
    refine gw_callV (y := yX6_keyAt) (lw_V q2804 q2806 qs60 q143 q2807) hdV_X6_keyAt gcl9 hu3 (As := [vI l3, vI l7]) (rest := [vI l6]) (m_X6_keyAt _ _ _ _ _ _ hv2) (Nat.le_of_ble_eq_true rfl) (Nat.le_of_ble_eq_true rfl) rfl (Nat.le_of_ble_eq_true rfl) dX6_splits_18 (gCont_i ?_)
    refine gw_iload 4 rfl dX6_splits_21 ?_
    refine gw_icmp_ge (tgt := 30) dX6_splits_23 (by decide) (fun hcnd => ?_) (fun hcnd => ?_)
    · rw [if_pos hcnd] at hB
      refine gw_iconst (v := (0 : Int32)) (by decide) dX6_splits_30 ?_
      exact gw_sub [0, 1, 2, 3, 4, 5, 7] rfl (w_X6_splits_31 hk6 _ _ _ _ _ _ _ _ _ _ hB)
    · rw [if_neg hcnd] at hB
      refine gw_iconst (v := (1 : Int32)) (by decide) dX6_splits_26 ?_
      refine gw_goto (tgt := 31) dX6_splits_27 (by decide) ?_
      exact gw_sub [0, 1, 2, 3, 4, 5, 7] rfl (w_X6_splits_31 hk6 _ _ _ _ _ _ _ _ _ _ hB)
theorem w_X6_splits_6 {E : gE} {F z0 n0 : Nat} {r : Unit} {s' : gS}   : ∀ (n : Nat) (l0 : Option Nat) (l1 : Int32) (l2 : Int32) (l3 : Int32) (l4 : Int32) (l5 : Int32) (l6 : Int32) (l7 : Int32)  (s : gS), f_X6_splits_6 (gk E) F  n l0 l1 l2 l3 l4 l5 l6 l7 s = some (r, s') → W_X6_splits E z0 n0 r s' 6 [(0, vR l0), (1, vI l1), (2, vI l2), (3, vI l3), (4, vI l4), (5, vI l5), (6, vI l6), (7, vI l7)] [] s := by
  intro n
  induction n with
  | zero => intro l0 l1 l2 l3 l4 l5 l6 l7 s hB; cases hB
  | succ n ih => intro l0 l1 l2 l3 l4 l5 l6 l7 s hB; exact w_X6_splits_6b ih l0 l1 l2 l3 l4 l5 l6 l7 s hB
noncomputable def f_X6_splits_0 (κ : gK) (F : Nat)  (l0 : Option Nat) (l1 : Int32) (l2 : Int32) (l3 : Int32) (l4 : Int32) (l5 : Int32) (s : gS) : Option (Unit × gS) :=
  f_X6_splits_6 κ F  F l0 l1 l2 l3 l4 l5 (0 : Int32) (0 : Int32) s
set_option maxHeartbeats 4000000 in
theorem w_X6_splits_0 {E : gE} {F z0 n0 : Nat} {r : Unit} {s' : gS}   : ∀ (l0 : Option Nat) (l1 : Int32) (l2 : Int32) (l3 : Int32) (l4 : Int32) (l5 : Int32)  (s : gS), f_X6_splits_0 (gk E) F  l0 l1 l2 l3 l4 l5 s = some (r, s') → W_X6_splits E z0 n0 r s' 0 [(0, vR l0), (1, vI l1), (2, vI l2), (3, vI l3), (4, vI l4), (5, vI l5)] [] s := by
  intro l0 l1 l2 l3 l4 l5 s hB
  unfold f_X6_splits_0 at hB
  refine gw_iconst (v := (0 : Int32)) (by decide) dX6_splits_0 ?_
  refine gw_istore (L' := [(6, vI (0 : Int32)), (0, vR l0), (1, vI l1), (2, vI l2), (3, vI l3), (4, vI l4), (5, vI l5)]) (Nat.le_of_ble_eq_true rfl) rfl dX6_splits_1 ?_
  refine gw_iconst (v := (0 : Int32)) (by decide) dX6_splits_3 ?_
  refine gw_istore (L' := [(7, vI (0 : Int32)), (6, vI (0 : Int32)), (0, vR l0), (1, vI l1), (2, vI l2), (3, vI l3), (4, vI l4), (5, vI l5)]) (Nat.le_of_ble_eq_true rfl) rfl dX6_splits_4 ?_
  exact gw_sub [2, 3, 4, 5, 6, 7, 1, 0] rfl (w_X6_splits_6  F _ _ _ _ _ _ _ _ _ hB)
noncomputable def f_X6_splits (κ : gK) (F : Nat) (a0 : Option Nat) (a1 : Int32) (a2 : Int32) (a3 : Int32) (a4 : Int32) (a5 : Int32) (s : gS) : Option (Unit × gS) := f_X6_splits_0 κ F a0 a1 a2 a3 a4 a5 s
theorem m_X6_splits {E : gE} {F : Nat} (a0 : Option Nat) (a1 : Int32) (a2 : Int32) (a3 : Int32) (a4 : Int32) (a5 : Int32) (s : gS) (r : Unit) (s' : gS) (h : f_X6_splits (gk E) F a0 a1 a2 a3 a4 a5 s = some (r, s')) : gCT E 6 yX6_splits (ws_ yX6_splits cX6_splits 9 none) [vR a0, vI a1, vI a2, vI a3, vI a4, vI a5] s (.inl none) s' := by
  refine gCT_of2 (fun h => absurd h (by decide)) (plainFor_of_name (by decide)) (Nat.le_of_ble_eq_true rfl) ?_
  exact gw_sub [0, 1, 2, 3, 4, 5] rfl (w_X6_splits_0 _ _ _ _ _ _ _ h)
def dkwX6_doPut_8 : List UInt8 := [27, 28, 182, 0, 135, 167, 0, 11, 42, 21, 6, 27, 28, 182, 0, 129, 17, 252, 24, 172]
abbrev dktX6_doPut_8 : List UInt8 := dkwX6_doPut_8 ++ []
def dkwX6_doPut_7 : List UInt8 := [182, 0, 106, 21, 8, 172, 42, 21, 6, 5, 182, 0, 53, 7, 160, 0, 18, 42, 21, 4, 21, 5, 21, 6]
abbrev dktX6_doPut_7 : List UInt8 := dkwX6_doPut_7 ++ dktX6_doPut_8
def dkwX6_doPut_6 : List UInt8 := [21, 7, 155, 0, 26, 42, 21, 6, 21, 7, 182, 0, 87, 54, 8, 42, 21, 6, 21, 7, 27, 28]
abbrev dktX6_doPut_6 : List UInt8 := dkwX6_doPut_6 ++ dktX6_doPut_7
def dkwX6_doPut_5 : List UInt8 := [17, 252, 24, 172, 42, 21, 4, 21, 5, 182, 0, 132, 54, 6, 42, 21, 6, 27, 182, 0, 84, 54, 7]
abbrev dktX6_doPut_5 : List UInt8 := dkwX6_doPut_5 ++ dktX6_doPut_6
def dkwX6_doPut_4 : List UInt8 := [182, 0, 96, 54, 6, 42, 21, 6, 27, 28, 182, 0, 129, 42, 21, 4, 3, 21, 6, 182, 0, 110]
abbrev dktX6_doPut_4 : List UInt8 := dkwX6_doPut_4 ++ dktX6_doPut_5
def dkwX6_doPut_3 : List UInt8 := [172, 42, 182, 0, 126, 54, 4, 42, 21, 4, 27, 182, 0, 81, 54, 5, 21, 5, 156, 0, 31, 42, 3]
abbrev dktX6_doPut_3 : List UInt8 := dkwX6_doPut_3 ++ dktX6_doPut_4
def dkwX6_doPut_2 : List UInt8 := [182, 0, 120, 62, 29, 17, 252, 24, 159, 0, 11, 29, 42, 182, 0, 123, 164, 0, 9, 42, 5, 182, 0, 117]
abbrev dktX6_doPut_2 : List UInt8 := dkwX6_doPut_2 ++ dktX6_doPut_3
def dkwX6_doPut_1 : List UInt8 := [4, 182, 0, 117, 172, 42, 180, 0, 7, 17, 1, 210, 46, 154, 0, 9, 17, 252, 24, 167, 0, 8, 42, 27]
abbrev dktX6_doPut_1 : List UInt8 := dkwX6_doPut_1 ++ dktX6_doPut_2
def dkwX6_doPut_0 : List UInt8 := [27, 3, 16, 99, 184, 0, 113, 153, 0, 16, 28, 17, 252, 25, 17, 3, 231, 184, 0, 113, 154, 0, 9, 42]
abbrev dktX6_doPut_0 : List UInt8 := dkwX6_doPut_0 ++ dktX6_doPut_1
theorem dksX6_doPut_0 : cX6_doPut.data.toList.drop 0 = dktX6_doPut_0 := by decide +kernel
theorem dksX6_doPut_1 : cX6_doPut.data.toList.drop 24 = dktX6_doPut_1 := dk_seg dksX6_doPut_0 24 rfl rfl
theorem dksX6_doPut_2 : cX6_doPut.data.toList.drop 48 = dktX6_doPut_2 := dk_seg dksX6_doPut_1 24 rfl rfl
theorem dksX6_doPut_3 : cX6_doPut.data.toList.drop 72 = dktX6_doPut_3 := dk_seg dksX6_doPut_2 24 rfl rfl
theorem dksX6_doPut_4 : cX6_doPut.data.toList.drop 95 = dktX6_doPut_4 := dk_seg dksX6_doPut_3 23 rfl rfl
theorem dksX6_doPut_5 : cX6_doPut.data.toList.drop 117 = dktX6_doPut_5 := dk_seg dksX6_doPut_4 22 rfl rfl
theorem dksX6_doPut_6 : cX6_doPut.data.toList.drop 140 = dktX6_doPut_6 := dk_seg dksX6_doPut_5 23 rfl rfl
theorem dksX6_doPut_7 : cX6_doPut.data.toList.drop 162 = dktX6_doPut_7 := dk_seg dksX6_doPut_6 22 rfl rfl
theorem dksX6_doPut_8 : cX6_doPut.data.toList.drop 186 = dktX6_doPut_8 := dk_seg dksX6_doPut_7 24 rfl rfl
theorem dX6_doPut_0 : decode cX6_doPut 0 = .ok (.iload_n 1, 1) := dk_27 (dk_at dksX6_doPut_0 0 rfl rfl)
theorem dX6_doPut_1 : decode cX6_doPut 1 = .ok (.iconst 0, 1) := dk_3 (dk_at dksX6_doPut_0 1 rfl rfl)
theorem dX6_doPut_2 : decode cX6_doPut 2 = .ok (.bipush 99, 2) := dk_16 99 (dk_at dksX6_doPut_0 2 rfl rfl)
theorem dX6_doPut_4 : decode cX6_doPut 4 = .ok (.invokestatic 113, 3) := dk_184 0 113 (dk_at dksX6_doPut_0 4 rfl rfl)
theorem dX6_doPut_7 : decode cX6_doPut 7 = .ok (.ifCond .eq 16, 3) := dk_153 0 16 (dk_at dksX6_doPut_0 7 rfl rfl)
theorem dX6_doPut_10 : decode cX6_doPut 10 = .ok (.iload_n 2, 1) := dk_28 (dk_at dksX6_doPut_0 10 rfl rfl)
theorem dX6_doPut_11 : decode cX6_doPut 11 = .ok (.sipush (-999), 3) := dk_17 252 25 (dk_at dksX6_doPut_0 11 rfl rfl)
theorem dX6_doPut_14 : decode cX6_doPut 14 = .ok (.sipush 999, 3) := dk_17 3 231 (dk_at dksX6_doPut_0 14 rfl rfl)
theorem dX6_doPut_17 : decode cX6_doPut 17 = .ok (.invokestatic 113, 3) := dk_184 0 113 (dk_at dksX6_doPut_0 17 rfl rfl)
theorem dX6_doPut_20 : decode cX6_doPut 20 = .ok (.ifCond .ne 9, 3) := dk_154 0 9 (dk_at dksX6_doPut_0 20 rfl rfl)
theorem dX6_doPut_23 : decode cX6_doPut 23 = .ok (.aload_n 0, 1) := dk_42 (dk_at dksX6_doPut_0 23 rfl rfl)
theorem dX6_doPut_24 : decode cX6_doPut 24 = .ok (.iconst 1, 1) := dk_4 (dk_at dksX6_doPut_1 0 rfl rfl)
theorem dX6_doPut_25 : decode cX6_doPut 25 = .ok (.invokevirtual 117, 3) := dk_182 0 117 (dk_at dksX6_doPut_1 1 rfl rfl)
theorem dX6_doPut_28 : decode cX6_doPut 28 = .ok (.ireturn, 1) := dk_172 (dk_at dksX6_doPut_1 4 rfl rfl)
theorem dX6_doPut_29 : decode cX6_doPut 29 = .ok (.aload_n 0, 1) := dk_42 (dk_at dksX6_doPut_1 5 rfl rfl)
theorem dX6_doPut_30 : decode cX6_doPut 30 = .ok (.getfield 7, 3) := dk_180 0 7 (dk_at dksX6_doPut_1 6 rfl rfl)
theorem dX6_doPut_33 : decode cX6_doPut 33 = .ok (.sipush 466, 3) := dk_17 1 210 (dk_at dksX6_doPut_1 9 rfl rfl)
theorem dX6_doPut_36 : decode cX6_doPut 36 = .ok (.iaload, 1) := dk_46 (dk_at dksX6_doPut_1 12 rfl rfl)
theorem dX6_doPut_37 : decode cX6_doPut 37 = .ok (.ifCond .ne 9, 3) := dk_154 0 9 (dk_at dksX6_doPut_1 13 rfl rfl)
theorem dX6_doPut_40 : decode cX6_doPut 40 = .ok (.sipush (-1000), 3) := dk_17 252 24 (dk_at dksX6_doPut_1 16 rfl rfl)
theorem dX6_doPut_43 : decode cX6_doPut 43 = .ok (.goto 8, 3) := dk_167 0 8 (dk_at dksX6_doPut_1 19 rfl rfl)
theorem dX6_doPut_46 : decode cX6_doPut 46 = .ok (.aload_n 0, 1) := dk_42 (dk_at dksX6_doPut_1 22 rfl rfl)
theorem dX6_doPut_47 : decode cX6_doPut 47 = .ok (.iload_n 1, 1) := dk_27 (dk_at dksX6_doPut_1 23 rfl rfl)
theorem dX6_doPut_48 : decode cX6_doPut 48 = .ok (.invokevirtual 120, 3) := dk_182 0 120 (dk_at dksX6_doPut_2 0 rfl rfl)
theorem dX6_doPut_51 : decode cX6_doPut 51 = .ok (.istore_n 3, 1) := dk_62 (dk_at dksX6_doPut_2 3 rfl rfl)
theorem dX6_doPut_52 : decode cX6_doPut 52 = .ok (.iload_n 3, 1) := dk_29 (dk_at dksX6_doPut_2 4 rfl rfl)
theorem dX6_doPut_53 : decode cX6_doPut 53 = .ok (.sipush (-1000), 3) := dk_17 252 24 (dk_at dksX6_doPut_2 5 rfl rfl)
theorem dX6_doPut_56 : decode cX6_doPut 56 = .ok (.if_icmp .eq 11, 3) := dk_159 0 11 (dk_at dksX6_doPut_2 8 rfl rfl)
theorem dX6_doPut_59 : decode cX6_doPut 59 = .ok (.iload_n 3, 1) := dk_29 (dk_at dksX6_doPut_2 11 rfl rfl)
theorem dX6_doPut_60 : decode cX6_doPut 60 = .ok (.aload_n 0, 1) := dk_42 (dk_at dksX6_doPut_2 12 rfl rfl)
theorem dX6_doPut_61 : decode cX6_doPut 61 = .ok (.invokevirtual 123, 3) := dk_182 0 123 (dk_at dksX6_doPut_2 13 rfl rfl)
theorem dX6_doPut_64 : decode cX6_doPut 64 = .ok (.if_icmp .le 9, 3) := dk_164 0 9 (dk_at dksX6_doPut_2 16 rfl rfl)
theorem dX6_doPut_67 : decode cX6_doPut 67 = .ok (.aload_n 0, 1) := dk_42 (dk_at dksX6_doPut_2 19 rfl rfl)
theorem dX6_doPut_68 : decode cX6_doPut 68 = .ok (.iconst 2, 1) := dk_5 (dk_at dksX6_doPut_2 20 rfl rfl)
theorem dX6_doPut_69 : decode cX6_doPut 69 = .ok (.invokevirtual 117, 3) := dk_182 0 117 (dk_at dksX6_doPut_2 21 rfl rfl)
theorem dX6_doPut_72 : decode cX6_doPut 72 = .ok (.ireturn, 1) := dk_172 (dk_at dksX6_doPut_3 0 rfl rfl)
theorem dX6_doPut_73 : decode cX6_doPut 73 = .ok (.aload_n 0, 1) := dk_42 (dk_at dksX6_doPut_3 1 rfl rfl)
theorem dX6_doPut_74 : decode cX6_doPut 74 = .ok (.invokevirtual 126, 3) := dk_182 0 126 (dk_at dksX6_doPut_3 2 rfl rfl)
theorem dX6_doPut_77 : decode cX6_doPut 77 = .ok (.istore 4, 2) := dk_54 4 (dk_at dksX6_doPut_3 5 rfl rfl)
theorem dX6_doPut_79 : decode cX6_doPut 79 = .ok (.aload_n 0, 1) := dk_42 (dk_at dksX6_doPut_3 7 rfl rfl)
theorem dX6_doPut_80 : decode cX6_doPut 80 = .ok (.iload 4, 2) := dk_21 4 (dk_at dksX6_doPut_3 8 rfl rfl)
theorem dX6_doPut_82 : decode cX6_doPut 82 = .ok (.iload_n 1, 1) := dk_27 (dk_at dksX6_doPut_3 10 rfl rfl)
theorem dX6_doPut_83 : decode cX6_doPut 83 = .ok (.invokevirtual 81, 3) := dk_182 0 81 (dk_at dksX6_doPut_3 11 rfl rfl)
theorem dX6_doPut_86 : decode cX6_doPut 86 = .ok (.istore 5, 2) := dk_54 5 (dk_at dksX6_doPut_3 14 rfl rfl)
theorem dX6_doPut_88 : decode cX6_doPut 88 = .ok (.iload 5, 2) := dk_21 5 (dk_at dksX6_doPut_3 16 rfl rfl)
theorem dX6_doPut_90 : decode cX6_doPut 90 = .ok (.ifCond .ge 31, 3) := dk_156 0 31 (dk_at dksX6_doPut_3 18 rfl rfl)
theorem dX6_doPut_93 : decode cX6_doPut 93 = .ok (.aload_n 0, 1) := dk_42 (dk_at dksX6_doPut_3 21 rfl rfl)
theorem dX6_doPut_94 : decode cX6_doPut 94 = .ok (.iconst 0, 1) := dk_3 (dk_at dksX6_doPut_3 22 rfl rfl)
theorem dX6_doPut_95 : decode cX6_doPut 95 = .ok (.invokevirtual 96, 3) := dk_182 0 96 (dk_at dksX6_doPut_4 0 rfl rfl)
theorem dX6_doPut_98 : decode cX6_doPut 98 = .ok (.istore 6, 2) := dk_54 6 (dk_at dksX6_doPut_4 3 rfl rfl)
theorem dX6_doPut_100 : decode cX6_doPut 100 = .ok (.aload_n 0, 1) := dk_42 (dk_at dksX6_doPut_4 5 rfl rfl)
theorem dX6_doPut_101 : decode cX6_doPut 101 = .ok (.iload 6, 2) := dk_21 6 (dk_at dksX6_doPut_4 6 rfl rfl)
theorem dX6_doPut_103 : decode cX6_doPut 103 = .ok (.iload_n 1, 1) := dk_27 (dk_at dksX6_doPut_4 8 rfl rfl)
theorem dX6_doPut_104 : decode cX6_doPut 104 = .ok (.iload_n 2, 1) := dk_28 (dk_at dksX6_doPut_4 9 rfl rfl)
theorem dX6_doPut_105 : decode cX6_doPut 105 = .ok (.invokevirtual 129, 3) := dk_182 0 129 (dk_at dksX6_doPut_4 10 rfl rfl)
theorem dX6_doPut_108 : decode cX6_doPut 108 = .ok (.aload_n 0, 1) := dk_42 (dk_at dksX6_doPut_4 13 rfl rfl)
theorem dX6_doPut_109 : decode cX6_doPut 109 = .ok (.iload 4, 2) := dk_21 4 (dk_at dksX6_doPut_4 14 rfl rfl)
theorem dX6_doPut_111 : decode cX6_doPut 111 = .ok (.iconst 0, 1) := dk_3 (dk_at dksX6_doPut_4 16 rfl rfl)
theorem dX6_doPut_112 : decode cX6_doPut 112 = .ok (.iload 6, 2) := dk_21 6 (dk_at dksX6_doPut_4 17 rfl rfl)
theorem dX6_doPut_114 : decode cX6_doPut 114 = .ok (.invokevirtual 110, 3) := dk_182 0 110 (dk_at dksX6_doPut_4 19 rfl rfl)
theorem dX6_doPut_117 : decode cX6_doPut 117 = .ok (.sipush (-1000), 3) := dk_17 252 24 (dk_at dksX6_doPut_5 0 rfl rfl)
theorem dX6_doPut_120 : decode cX6_doPut 120 = .ok (.ireturn, 1) := dk_172 (dk_at dksX6_doPut_5 3 rfl rfl)
theorem dX6_doPut_121 : decode cX6_doPut 121 = .ok (.aload_n 0, 1) := dk_42 (dk_at dksX6_doPut_5 4 rfl rfl)
theorem dX6_doPut_122 : decode cX6_doPut 122 = .ok (.iload 4, 2) := dk_21 4 (dk_at dksX6_doPut_5 5 rfl rfl)
theorem dX6_doPut_124 : decode cX6_doPut 124 = .ok (.iload 5, 2) := dk_21 5 (dk_at dksX6_doPut_5 7 rfl rfl)
theorem dX6_doPut_126 : decode cX6_doPut 126 = .ok (.invokevirtual 132, 3) := dk_182 0 132 (dk_at dksX6_doPut_5 9 rfl rfl)
theorem dX6_doPut_129 : decode cX6_doPut 129 = .ok (.istore 6, 2) := dk_54 6 (dk_at dksX6_doPut_5 12 rfl rfl)
theorem dX6_doPut_131 : decode cX6_doPut 131 = .ok (.aload_n 0, 1) := dk_42 (dk_at dksX6_doPut_5 14 rfl rfl)
theorem dX6_doPut_132 : decode cX6_doPut 132 = .ok (.iload 6, 2) := dk_21 6 (dk_at dksX6_doPut_5 15 rfl rfl)
theorem dX6_doPut_134 : decode cX6_doPut 134 = .ok (.iload_n 1, 1) := dk_27 (dk_at dksX6_doPut_5 17 rfl rfl)
theorem dX6_doPut_135 : decode cX6_doPut 135 = .ok (.invokevirtual 84, 3) := dk_182 0 84 (dk_at dksX6_doPut_5 18 rfl rfl)
theorem dX6_doPut_138 : decode cX6_doPut 138 = .ok (.istore 7, 2) := dk_54 7 (dk_at dksX6_doPut_5 21 rfl rfl)
theorem dX6_doPut_140 : decode cX6_doPut 140 = .ok (.iload 7, 2) := dk_21 7 (dk_at dksX6_doPut_6 0 rfl rfl)
theorem dX6_doPut_142 : decode cX6_doPut 142 = .ok (.ifCond .lt 26, 3) := dk_155 0 26 (dk_at dksX6_doPut_6 2 rfl rfl)
theorem dX6_doPut_145 : decode cX6_doPut 145 = .ok (.aload_n 0, 1) := dk_42 (dk_at dksX6_doPut_6 5 rfl rfl)
theorem dX6_doPut_146 : decode cX6_doPut 146 = .ok (.iload 6, 2) := dk_21 6 (dk_at dksX6_doPut_6 6 rfl rfl)
theorem dX6_doPut_148 : decode cX6_doPut 148 = .ok (.iload 7, 2) := dk_21 7 (dk_at dksX6_doPut_6 8 rfl rfl)
theorem dX6_doPut_150 : decode cX6_doPut 150 = .ok (.invokevirtual 87, 3) := dk_182 0 87 (dk_at dksX6_doPut_6 10 rfl rfl)
theorem dX6_doPut_153 : decode cX6_doPut 153 = .ok (.istore 8, 2) := dk_54 8 (dk_at dksX6_doPut_6 13 rfl rfl)
theorem dX6_doPut_155 : decode cX6_doPut 155 = .ok (.aload_n 0, 1) := dk_42 (dk_at dksX6_doPut_6 15 rfl rfl)
theorem dX6_doPut_156 : decode cX6_doPut 156 = .ok (.iload 6, 2) := dk_21 6 (dk_at dksX6_doPut_6 16 rfl rfl)
theorem dX6_doPut_158 : decode cX6_doPut 158 = .ok (.iload 7, 2) := dk_21 7 (dk_at dksX6_doPut_6 18 rfl rfl)
theorem dX6_doPut_160 : decode cX6_doPut 160 = .ok (.iload_n 1, 1) := dk_27 (dk_at dksX6_doPut_6 20 rfl rfl)
theorem dX6_doPut_161 : decode cX6_doPut 161 = .ok (.iload_n 2, 1) := dk_28 (dk_at dksX6_doPut_6 21 rfl rfl)
theorem dX6_doPut_162 : decode cX6_doPut 162 = .ok (.invokevirtual 106, 3) := dk_182 0 106 (dk_at dksX6_doPut_7 0 rfl rfl)
theorem dX6_doPut_165 : decode cX6_doPut 165 = .ok (.iload 8, 2) := dk_21 8 (dk_at dksX6_doPut_7 3 rfl rfl)
theorem dX6_doPut_167 : decode cX6_doPut 167 = .ok (.ireturn, 1) := dk_172 (dk_at dksX6_doPut_7 5 rfl rfl)
theorem dX6_doPut_168 : decode cX6_doPut 168 = .ok (.aload_n 0, 1) := dk_42 (dk_at dksX6_doPut_7 6 rfl rfl)
theorem dX6_doPut_169 : decode cX6_doPut 169 = .ok (.iload 6, 2) := dk_21 6 (dk_at dksX6_doPut_7 7 rfl rfl)
theorem dX6_doPut_171 : decode cX6_doPut 171 = .ok (.iconst 2, 1) := dk_5 (dk_at dksX6_doPut_7 9 rfl rfl)
theorem dX6_doPut_172 : decode cX6_doPut 172 = .ok (.invokevirtual 53, 3) := dk_182 0 53 (dk_at dksX6_doPut_7 10 rfl rfl)
theorem dX6_doPut_175 : decode cX6_doPut 175 = .ok (.iconst 4, 1) := dk_7 (dk_at dksX6_doPut_7 13 rfl rfl)
theorem dX6_doPut_176 : decode cX6_doPut 176 = .ok (.if_icmp .ne 18, 3) := dk_160 0 18 (dk_at dksX6_doPut_7 14 rfl rfl)
theorem dX6_doPut_179 : decode cX6_doPut 179 = .ok (.aload_n 0, 1) := dk_42 (dk_at dksX6_doPut_7 17 rfl rfl)
theorem dX6_doPut_180 : decode cX6_doPut 180 = .ok (.iload 4, 2) := dk_21 4 (dk_at dksX6_doPut_7 18 rfl rfl)
theorem dX6_doPut_182 : decode cX6_doPut 182 = .ok (.iload 5, 2) := dk_21 5 (dk_at dksX6_doPut_7 20 rfl rfl)
theorem dX6_doPut_184 : decode cX6_doPut 184 = .ok (.iload 6, 2) := dk_21 6 (dk_at dksX6_doPut_7 22 rfl rfl)
theorem dX6_doPut_186 : decode cX6_doPut 186 = .ok (.iload_n 1, 1) := dk_27 (dk_at dksX6_doPut_8 0 rfl rfl)
theorem dX6_doPut_187 : decode cX6_doPut 187 = .ok (.iload_n 2, 1) := dk_28 (dk_at dksX6_doPut_8 1 rfl rfl)
theorem dX6_doPut_188 : decode cX6_doPut 188 = .ok (.invokevirtual 135, 3) := dk_182 0 135 (dk_at dksX6_doPut_8 2 rfl rfl)
theorem dX6_doPut_191 : decode cX6_doPut 191 = .ok (.goto 11, 3) := dk_167 0 11 (dk_at dksX6_doPut_8 5 rfl rfl)
theorem dX6_doPut_194 : decode cX6_doPut 194 = .ok (.aload_n 0, 1) := dk_42 (dk_at dksX6_doPut_8 8 rfl rfl)
theorem dX6_doPut_195 : decode cX6_doPut 195 = .ok (.iload 6, 2) := dk_21 6 (dk_at dksX6_doPut_8 9 rfl rfl)
theorem dX6_doPut_197 : decode cX6_doPut 197 = .ok (.iload_n 1, 1) := dk_27 (dk_at dksX6_doPut_8 11 rfl rfl)
theorem dX6_doPut_198 : decode cX6_doPut 198 = .ok (.iload_n 2, 1) := dk_28 (dk_at dksX6_doPut_8 12 rfl rfl)
theorem dX6_doPut_199 : decode cX6_doPut 199 = .ok (.invokevirtual 129, 3) := dk_182 0 129 (dk_at dksX6_doPut_8 13 rfl rfl)
theorem dX6_doPut_202 : decode cX6_doPut 202 = .ok (.sipush (-1000), 3) := dk_17 252 24 (dk_at dksX6_doPut_8 16 rfl rfl)
theorem dX6_doPut_205 : decode cX6_doPut 205 = .ok (.ireturn, 1) := dk_172 (dk_at dksX6_doPut_8 19 rfl rfl)
/-! PageGardenModel.doPut(II)I -/
abbrev M_X6_doPut (z0 n0 : Nat) (s' : gS) : gM := (RX6, cX6_doPut, 9, (some FieldType.int), "doPut", [], 7, z0, n0, s'.2.1, s'.2.2)
abbrev W_X6_doPut (E : gE) (z0 n0 : Nat) (r : Int32) (s' : gS) (pc : Nat) (L : List (Nat × gV)) (st : List gV) (s : gS) : Prop := gW E (M_X6_doPut z0 n0 s') (gQm E (M_X6_doPut z0 n0 s') (.inl (some (vI r))) s') pc L st s
noncomputable def f_X6_doPut_23 (κ : gK) (F : Nat)  (l0 : Option Nat) (s : gS) : Option (Int32 × gS) :=
  gB1 (gck s l0 9) fun _ =>
  gB2 (f_X6_refuse κ F l0 (1 : Int32) s) fun v2 s1 =>
  some (v2, s1)
set_option maxHeartbeats 4000000 in
theorem w_X6_doPut_23 {E : gE} {F z0 n0 : Nat} {r : Int32} {s' : gS}   : ∀ (l0 : Option Nat)  (s : gS), f_X6_doPut_23 (gk E) F  l0 s = some (r, s') → W_X6_doPut E z0 n0 r s' 23 [(0, vR l0)] [] s := by
  intro l0 s hB
  unfold f_X6_doPut_23 at hB
  refine gw_aload_n 0 rfl dX6_doPut_23 ?_
  refine gw_iconst (v := (1 : Int32)) (by decide) dX6_doPut_24 ?_
  obtain ⟨u0, hu3, hB⟩ := gB1_some hB
  obtain ⟨v2, s1, hv2, hB⟩ := gB2_some hB
  refine gw_callV (y := yX6_refuse) (lw_V q2753 q2755 qs49 q143 q2756) hdV_X6_refuse gcl9 hu3 (As := [vI (1 : Int32)]) (rest := []) (m_X6_refuse _ _ _ _ _ hv2) (Nat.le_of_ble_eq_true rfl) (Nat.le_of_ble_eq_true rfl) rfl (Nat.le_of_ble_eq_true rfl) dX6_doPut_25 (gCont_i ?_)
  obtain ⟨rfl, rfl⟩ := Prod.mk.inj (Option.some.inj hB)
  exact gw_iret rfl rfl rfl dX6_doPut_28
noncomputable def f_X6_doPut_67 (κ : gK) (F : Nat)  (l0 : Option Nat) (s : gS) : Option (Int32 × gS) :=
  gB1 (gck s l0 9) fun _ =>
  gB2 (f_X6_refuse κ F l0 (2 : Int32) s) fun v2 s1 =>
  some (v2, s1)
set_option maxHeartbeats 4000000 in
theorem w_X6_doPut_67 {E : gE} {F z0 n0 : Nat} {r : Int32} {s' : gS}   : ∀ (l0 : Option Nat)  (s : gS), f_X6_doPut_67 (gk E) F  l0 s = some (r, s') → W_X6_doPut E z0 n0 r s' 67 [(0, vR l0)] [] s := by
  intro l0 s hB
  unfold f_X6_doPut_67 at hB
  refine gw_aload_n 0 rfl dX6_doPut_67 ?_
  refine gw_iconst (v := (2 : Int32)) (by decide) dX6_doPut_68 ?_
  obtain ⟨u0, hu3, hB⟩ := gB1_some hB
  obtain ⟨v2, s1, hv2, hB⟩ := gB2_some hB
  refine gw_callV (y := yX6_refuse) (lw_V q2753 q2755 qs49 q143 q2756) hdV_X6_refuse gcl9 hu3 (As := [vI (2 : Int32)]) (rest := []) (m_X6_refuse _ _ _ _ _ hv2) (Nat.le_of_ble_eq_true rfl) (Nat.le_of_ble_eq_true rfl) rfl (Nat.le_of_ble_eq_true rfl) dX6_doPut_69 (gCont_i ?_)
  obtain ⟨rfl, rfl⟩ := Prod.mk.inj (Option.some.inj hB)
  exact gw_iret rfl rfl rfl dX6_doPut_72
noncomputable def f_X6_doPut_202 (κ : gK) (F : Nat)   (s : gS) : Option (Int32 × gS) :=
  some ((-1000 : Int32), s)
set_option maxHeartbeats 4000000 in
theorem w_X6_doPut_202 {E : gE} {F z0 n0 : Nat} {r : Int32} {s' : gS}   : ∀   (s : gS), f_X6_doPut_202 (gk E) F   s = some (r, s') → W_X6_doPut E z0 n0 r s' 202 [] [] s := by
  intro  s hB
  unfold f_X6_doPut_202 at hB
  refine gw_sipush (v := (-1000 : Int32)) (by decide) dX6_doPut_202 ?_
  obtain ⟨rfl, rfl⟩ := Prod.mk.inj (Option.some.inj hB)
  exact gw_iret rfl rfl rfl dX6_doPut_205
noncomputable def f_X6_doPut_51 (κ : gK) (F : Nat)  (l0 : Option Nat) (l1 : Int32) (l2 : Int32) (t0 : Int32) (s : gS) : Option (Int32 × gS) :=
  if t0 = (-1000 : Int32) then
    f_X6_doPut_67 κ F  l0 s
  else
    gB1 (gck s l0 9) fun _ =>
    gB2 (f_X6_manyToDig κ F l0  s) fun v2 s1 =>
    if t0 ≤ v2 then
      gB1 (gck s1 l0 9) fun _ =>
      gB2 (f_X6_directory κ F l0  s1) fun v5 s4 =>
      gB1 (gck s4 l0 9) fun _ =>
      gB2 (f_X6_placeFor κ F l0 v5 l1 s4) fun v8 s7 =>
      if 0 ≤ v8 then
        gB1 (gck s7 l0 9) fun _ =>
        gB2 (f_X6_ownLeaf κ F l0 v5 v8 s7) fun v11 s10 =>
        gB1 (gck s10 l0 9) fun _ =>
        gB2 (f_X6_placeIn κ F l0 v11 l1 s10) fun v14 s13 =>
        if v14 < 0 then
          gB1 (gck s13 l0 9) fun _ =>
          gB2 (f_X6_of κ F l0 v11 (2 : Int32) s13) fun v17 s16 =>
          if v17 = (4 : Int32) then
            gB1 (gck s16 l0 9) fun _ =>
            gB2 (f_X6_splits κ F l0 v5 v8 v11 l1 l2 s16) fun v23 s22 =>
            f_X6_doPut_202 κ F  s22
          else
            gB1 (gck s16 l0 9) fun _ =>
            gB2 (f_X6_inserts κ F l0 v11 l1 l2 s16) fun v20 s19 =>
            f_X6_doPut_202 κ F  s19
        else
          gB1 (gck s13 l0 9) fun _ =>
          gB2 (f_X6_valueAt κ F l0 v11 v14 s13) fun v26 s25 =>
          gB1 (gck s25 l0 9) fun _ =>
          gB2 (f_X6_setEntry κ F l0 v11 v14 l1 l2 s25) fun v29 s28 =>
          some (v26, s28)
      else
        gB1 (gck s7 l0 9) fun _ =>
        gB2 (f_X6_dig κ F l0 (0 : Int32) s7) fun v32 s31 =>
        gB1 (gck s31 l0 9) fun _ =>
        gB2 (f_X6_inserts κ F l0 v32 l1 l2 s31) fun v35 s34 =>
        gB1 (gck s34 l0 9) fun _ =>
        gB2 (f_X6_insertLeaf κ F l0 v5 (0 : Int32) v32 s34) fun v38 s37 =>
        some ((-1000 : Int32), s37)
    else
      f_X6_doPut_67 κ F  l0 s1
set_option maxHeartbeats 4000000 in
theorem w_X6_doPut_51 {E : gE} {F z0 n0 : Nat} {r : Int32} {s' : gS}   : ∀ (l0 : Option Nat) (l1 : Int32) (l2 : Int32) (t0 : Int32) (s : gS), f_X6_doPut_51 (gk E) F  l0 l1 l2 t0 s = some (r, s') → W_X6_doPut E z0 n0 r s' 51 [(0, vR l0), (1, vI l1), (2, vI l2)] [vI t0] s := by
  intro l0 l1 l2 t0 s hB
  unfold f_X6_doPut_51 at hB
  refine gw_istore_n (L' := [(3, vI t0), (0, vR l0), (1, vI l1), (2, vI l2)]) (Nat.le_of_ble_eq_true rfl) rfl dX6_doPut_51 ?_
  refine gw_iload_n 0 rfl dX6_doPut_52 ?_
  refine gw_sipush (v := (-1000 : Int32)) (by decide) dX6_doPut_53 ?_
  refine gw_icmp_eq (tgt := 67) dX6_doPut_56 (by decide) (fun hcnd => ?_) (fun hcnd => ?_)
  · rw [if_pos hcnd] at hB
    exact gw_sub [1] rfl (w_X6_doPut_67  _ _ hB)
  · rw [if_neg hcnd] at hB
    refine gw_iload_n 0 rfl dX6_doPut_59 ?_
    refine gw_aload_n 1 rfl dX6_doPut_60 ?_
    obtain ⟨u0, hu3, hB⟩ := gB1_some hB
    obtain ⟨v2, s1, hv2, hB⟩ := gB2_some hB
    refine gw_callV (y := yX6_manyToDig) (lw_V q2812 q2814 qs62 q143 q2815) hdV_X6_manyToDig gcl9 hu3 (As := []) (rest := [vI t0]) (m_X6_manyToDig _ _ _ _ hv2) (Nat.le_of_ble_eq_true rfl) (Nat.le_of_ble_eq_true rfl) rfl (Nat.le_of_ble_eq_true rfl) dX6_doPut_61 (gCont_i ?_)
    refine gw_icmp_le (tgt := 73) dX6_doPut_64 (by decide) (fun hcnd => ?_) (fun hcnd => ?_)
    · rw [if_pos hcnd] at hB
      refine gw_aload_n 1 rfl dX6_doPut_73 ?_
      obtain ⟨u0, hu6, hB⟩ := gB1_some hB
      obtain ⟨v5, s4, hv5, hB⟩ := gB2_some hB
      refine gw_callV (y := yX6_directory) (lw_V q2828 q2830 qs66 q143 q2831) hdV_X6_directory gcl9 hu6 (As := []) (rest := []) (m_X6_directory _ _ _ _ hv5) (Nat.le_of_ble_eq_true rfl) (Nat.le_of_ble_eq_true rfl) rfl (Nat.le_of_ble_eq_true rfl) dX6_doPut_74 (gCont_i ?_)
      refine gw_istore (L' := [(4, vI v5), (3, vI t0), (0, vR l0), (1, vI l1), (2, vI l2)]) (Nat.le_of_ble_eq_true rfl) rfl dX6_doPut_77 ?_
      refine gw_aload_n 2 rfl dX6_doPut_79 ?_
      refine gw_iload 0 rfl dX6_doPut_80 ?_
      refine gw_iload_n 3 rfl dX6_doPut_82 ?_
      obtain ⟨u0, hu9, hB⟩ := gB1_some hB
      obtain ⟨v8, s7, hv8, hB⟩ := gB2_some hB
      refine gw_callV (y := yX6_placeFor) (lw_V q2792 q2794 qs57 q143 q2795) hdV_X6_placeFor gcl9 hu9 (As := [vI v5, vI l1]) (rest := []) (m_X6_placeFor _ _ _ _ _ _ hv8) (Nat.le_of_ble_eq_true rfl) (Nat.le_of_ble_eq_true rfl) rfl (Nat.le_of_ble_eq_true rfl) dX6_doPut_83 (gCont_i ?_)
      refine gw_istore (L' := [(5, vI v8), (4, vI v5), (3, vI t0), (0, vR l0), (1, vI l1), (2, vI l2)]) (Nat.le_of_ble_eq_true rfl) rfl dX6_doPut_86 ?_
      refine gw_iload 0 rfl dX6_doPut_88 ?_
      refine gw_if_ge (tgt := 121) dX6_doPut_90 (by decide) (fun hcnd => ?_) (fun hcnd => ?_)
      · rw [if_pos hcnd] at hB
        refine gw_aload_n 3 rfl dX6_doPut_121 ?_
        refine gw_iload 1 rfl dX6_doPut_122 ?_
        refine gw_iload 0 rfl dX6_doPut_124 ?_
        obtain ⟨u0, hu12, hB⟩ := gB1_some hB
        obtain ⟨v11, s10, hv11, hB⟩ := gB2_some hB
        refine gw_callV (y := yX6_ownLeaf) (lw_V q2872 q2874 qs77 q143 q2875) hdV_X6_ownLeaf gcl9 hu12 (As := [vI v5, vI v8]) (rest := []) (m_X6_ownLeaf _ _ _ _ _ _ hv11) (Nat.le_of_ble_eq_true rfl) (Nat.le_of_ble_eq_true rfl) rfl (Nat.le_of_ble_eq_true rfl) dX6_doPut_126 (gCont_i ?_)
        refine gw_istore (L' := [(6, vI v11), (5, vI v8), (4, vI v5), (3, vI t0), (0, vR l0), (1, vI l1), (2, vI l2)]) (Nat.le_of_ble_eq_true rfl) rfl dX6_doPut_129 ?_
        refine gw_aload_n 4 rfl dX6_doPut_131 ?_
        refine gw_iload 0 rfl dX6_doPut_132 ?_
        refine gw_iload_n 5 rfl dX6_doPut_134 ?_
        obtain ⟨u0, hu15, hB⟩ := gB1_some hB
        obtain ⟨v14, s13, hv14, hB⟩ := gB2_some hB
        refine gw_callV (y := yX6_placeIn) (lw_V q2808 q2810 qs61 q143 q2811) hdV_X6_placeIn gcl9 hu15 (As := [vI v11, vI l1]) (rest := []) (m_X6_placeIn _ _ _ _ _ _ hv14) (Nat.le_of_ble_eq_true rfl) (Nat.le_of_ble_eq_true rfl) rfl (Nat.le_of_ble_eq_true rfl) dX6_doPut_135 (gCont_i ?_)
        refine gw_istore (L' := [(7, vI v14), (6, vI v11), (5, vI v8), (4, vI v5), (3, vI t0), (0, vR l0), (1, vI l1), (2, vI l2)]) (Nat.le_of_ble_eq_true rfl) rfl dX6_doPut_138 ?_
        refine gw_iload 0 rfl dX6_doPut_140 ?_
        refine gw_if_lt (tgt := 168) dX6_doPut_142 (by decide) (fun hcnd => ?_) (fun hcnd => ?_)
        · rw [if_pos hcnd] at hB
          refine gw_aload_n 5 rfl dX6_doPut_168 ?_
          refine gw_iload 1 rfl dX6_doPut_169 ?_
          refine gw_iconst (v := (2 : Int32)) (by decide) dX6_doPut_171 ?_
          obtain ⟨u0, hu18, hB⟩ := gB1_some hB
          obtain ⟨v17, s16, hv17, hB⟩ := gB2_some hB
          refine gw_callV (y := yX6_of) (lw_V q2796 q2798 qs58 q143 q2799) hdV_X6_of gcl9 hu18 (As := [vI v11, vI (2 : Int32)]) (rest := []) (m_X6_of _ _ _ _ _ _ hv17) (Nat.le_of_ble_eq_true rfl) (Nat.le_of_ble_eq_true rfl) rfl (Nat.le_of_ble_eq_true rfl) dX6_doPut_172 (gCont_i ?_)
          refine gw_iconst (v := (4 : Int32)) (by decide) dX6_doPut_175 ?_
          refine gw_icmp_ne (tgt := 194) dX6_doPut_176 (by decide) (fun hcnd => ?_) (fun hcnd => ?_)
          · rw [if_neg hcnd] at hB
            refine gw_aload_n 5 rfl dX6_doPut_194 ?_
            refine gw_iload 1 rfl dX6_doPut_195 ?_
            refine gw_iload_n 6 rfl dX6_doPut_197 ?_
            refine gw_iload_n 7 rfl dX6_doPut_198 ?_
            obtain ⟨u0, hu21, hB⟩ := gB1_some hB
            obtain ⟨v20, s19, hv20, hB⟩ := gB2_some hB
            refine gw_callV (y := yX6_inserts) (lw_V q2856 q2858 qs73 q143 q2859) hdV_X6_inserts gcl9 hu21 (As := [vI v11, vI l1, vI l2]) (rest := []) (m_X6_inserts _ _ _ _ _ _ _ hv20) (Nat.le_of_ble_eq_true rfl) (Nat.le_of_ble_eq_true rfl) rfl (Nat.le_of_ble_eq_true rfl) dX6_doPut_199 (gCont_v ?_)
            exact gw_sub [] rfl (w_X6_doPut_202   _ hB)
          · rw [if_pos hcnd] at hB
            refine gw_aload_n 5 rfl dX6_doPut_179 ?_
            refine gw_iload 3 rfl dX6_doPut_180 ?_
            refine gw_iload 2 rfl dX6_doPut_182 ?_
            refine gw_iload 1 rfl dX6_doPut_184 ?_
            refine gw_iload_n 6 rfl dX6_doPut_186 ?_
            refine gw_iload_n 7 rfl dX6_doPut_187 ?_
            obtain ⟨u0, hu24, hB⟩ := gB1_some hB
            obtain ⟨v23, s22, hv23, hB⟩ := gB2_some hB
            refine gw_callV (y := yX6_splits) (lw_V q2876 q2878 qs78 q143 q2879) hdV_X6_splits gcl9 hu24 (As := [vI v5, vI v8, vI v11, vI l1, vI l2]) (rest := []) (m_X6_splits _ _ _ _ _ _ _ _ _ hv23) (Nat.le_of_ble_eq_true rfl) (Nat.le_of_ble_eq_true rfl) rfl (Nat.le_of_ble_eq_true rfl) dX6_doPut_188 (gCont_v ?_)
            refine gw_goto (tgt := 202) dX6_doPut_191 (by decide) ?_
            exact gw_sub [] rfl (w_X6_doPut_202   _ hB)
        · rw [if_neg hcnd] at hB
          refine gw_aload_n 5 rfl dX6_doPut_145 ?_
          refine gw_iload 1 rfl dX6_doPut_146 ?_
          refine gw_iload 0 rfl dX6_doPut_148 ?_
          obtain ⟨u0, hu27, hB⟩ := gB1_some hB
          obtain ⟨v26, s25, hv26, hB⟩ := gB2_some hB
          refine gw_callV (y := yX6_valueAt) (lw_V q2860 q2862 qs74 q143 q2863) hdV_X6_valueAt gcl9 hu27 (As := [vI v11, vI v14]) (rest := []) (m_X6_valueAt _ _ _ _ _ _ hv26) (Nat.le_of_ble_eq_true rfl) (Nat.le_of_ble_eq_true rfl) rfl (Nat.le_of_ble_eq_true rfl) dX6_doPut_150 (gCont_i ?_)
          refine gw_istore (L' := [(8, vI v26), (7, vI v14), (6, vI v11), (5, vI v8), (4, vI v5), (3, vI t0), (0, vR l0), (1, vI l1), (2, vI l2)]) (Nat.le_of_ble_eq_true rfl) rfl dX6_doPut_153 ?_
          refine gw_aload_n 6 rfl dX6_doPut_155 ?_
          refine gw_iload 2 rfl dX6_doPut_156 ?_
          refine gw_iload 1 rfl dX6_doPut_158 ?_
          refine gw_iload_n 7 rfl dX6_doPut_160 ?_
          refine gw_iload_n 8 rfl dX6_doPut_161 ?_
          obtain ⟨u0, hu30, hB⟩ := gB1_some hB
          obtain ⟨v29, s28, hv29, hB⟩ := gB2_some hB
          refine gw_callV (y := yX6_setEntry) (lw_V q2864 q2866 qs75 q143 q2867) hdV_X6_setEntry gcl9 hu30 (As := [vI v11, vI v14, vI l1, vI l2]) (rest := []) (m_X6_setEntry _ _ _ _ _ _ _ _ hv29) (Nat.le_of_ble_eq_true rfl) (Nat.le_of_ble_eq_true rfl) rfl (Nat.le_of_ble_eq_true rfl) dX6_doPut_162 (gCont_v ?_)
          refine gw_iload 0 rfl dX6_doPut_165 ?_
          obtain ⟨rfl, rfl⟩ := Prod.mk.inj (Option.some.inj hB)
          exact gw_iret rfl rfl rfl dX6_doPut_167
      · rw [if_neg hcnd] at hB
        refine gw_aload_n 3 rfl dX6_doPut_93 ?_
        refine gw_iconst (v := (0 : Int32)) (by decide) dX6_doPut_94 ?_
        obtain ⟨u0, hu33, hB⟩ := gB1_some hB
        obtain ⟨v32, s31, hv32, hB⟩ := gB2_some hB
        refine gw_callV (y := yX6_dig) (lw_V q2832 q2834 qs67 q143 q2835) hdV_X6_dig gcl9 hu33 (As := [vI (0 : Int32)]) (rest := []) (m_X6_dig _ _ _ _ _ hv32) (Nat.le_of_ble_eq_true rfl) (Nat.le_of_ble_eq_true rfl) rfl (Nat.le_of_ble_eq_true rfl) dX6_doPut_95 (gCont_i ?_)
        refine gw_istore (L' := [(6, vI v32), (5, vI v8), (4, vI v5), (3, vI t0), (0, vR l0), (1, vI l1), (2, vI l2)]) (Nat.le_of_ble_eq_true rfl) rfl dX6_doPut_98 ?_
        refine gw_aload_n 4 rfl dX6_doPut_100 ?_
        refine gw_iload 0 rfl dX6_doPut_101 ?_
        refine gw_iload_n 5 rfl dX6_doPut_103 ?_
        refine gw_iload_n 6 rfl dX6_doPut_104 ?_
        obtain ⟨u0, hu36, hB⟩ := gB1_some hB
        obtain ⟨v35, s34, hv35, hB⟩ := gB2_some hB
        refine gw_callV (y := yX6_inserts) (lw_V q2856 q2858 qs73 q143 q2859) hdV_X6_inserts gcl9 hu36 (As := [vI v32, vI l1, vI l2]) (rest := []) (m_X6_inserts _ _ _ _ _ _ _ hv35) (Nat.le_of_ble_eq_true rfl) (Nat.le_of_ble_eq_true rfl) rfl (Nat.le_of_ble_eq_true rfl) dX6_doPut_105 (gCont_v ?_)
        refine gw_aload_n 4 rfl dX6_doPut_108 ?_
        refine gw_iload 2 rfl dX6_doPut_109 ?_
        refine gw_iconst (v := (0 : Int32)) (by decide) dX6_doPut_111 ?_
        refine gw_iload 0 rfl dX6_doPut_112 ?_
        obtain ⟨u0, hu39, hB⟩ := gB1_some hB
        obtain ⟨v38, s37, hv38, hB⟩ := gB2_some hB
        refine gw_callV (y := yX6_insertLeaf) (lw_V q2868 q2870 qs76 q143 q2871) hdV_X6_insertLeaf gcl9 hu39 (As := [vI v5, vI (0 : Int32), vI v32]) (rest := []) (m_X6_insertLeaf _ _ _ _ _ _ _ hv38) (Nat.le_of_ble_eq_true rfl) (Nat.le_of_ble_eq_true rfl) rfl (Nat.le_of_ble_eq_true rfl) dX6_doPut_114 (gCont_v ?_)
        refine gw_sipush (v := (-1000 : Int32)) (by decide) dX6_doPut_117 ?_
        obtain ⟨rfl, rfl⟩ := Prod.mk.inj (Option.some.inj hB)
        exact gw_iret rfl rfl rfl dX6_doPut_120
    · rw [if_neg hcnd] at hB
      exact gw_sub [1] rfl (w_X6_doPut_67  _ _ hB)
noncomputable def f_X6_doPut_0 (κ : gK) (F : Nat)  (l0 : Option Nat) (l1 : Int32) (l2 : Int32) (s : gS) : Option (Int32 × gS) :=
  gB2 (f_X6_in κ F l1 (0 : Int32) (99 : Int32) s) fun v2 s1 =>
  if v2 = 0 then
    f_X6_doPut_23 κ F  l0 s1
  else
    gB2 (f_X6_in κ F l2 (-999 : Int32) (999 : Int32) s1) fun v4 s3 =>
    if v4 = 0 then
      f_X6_doPut_23 κ F  l0 s3
    else
      gB1 (gfR s3 l0 9 0) fun v5 =>
      gB1 (gaI s3 v5 0 (466 : Int32)) fun v6 =>
      if v6 = 0 then
        f_X6_doPut_51 κ F  l0 l1 l2 (-1000 : Int32) s3
      else
        gB1 (gck s3 l0 9) fun _ =>
        gB2 (f_X6_bedsOf κ F l0 l1 s3) fun v8 s7 =>
        f_X6_doPut_51 κ F  l0 l1 l2 v8 s7
set_option maxHeartbeats 4000000 in
theorem w_X6_doPut_0 {E : gE} {F z0 n0 : Nat} {r : Int32} {s' : gS}   : ∀ (l0 : Option Nat) (l1 : Int32) (l2 : Int32)  (s : gS), f_X6_doPut_0 (gk E) F  l0 l1 l2 s = some (r, s') → W_X6_doPut E z0 n0 r s' 0 [(0, vR l0), (1, vI l1), (2, vI l2)] [] s := by
  intro l0 l1 l2 s hB
  unfold f_X6_doPut_0 at hB
  refine gw_iload_n 1 rfl dX6_doPut_0 ?_
  refine gw_iconst (v := (0 : Int32)) (by decide) dX6_doPut_1 ?_
  refine gw_bipush (v := (99 : Int32)) (by decide) dX6_doPut_2 ?_
  obtain ⟨v2, s1, hv2, hB⟩ := gB2_some hB
  refine gw_callS (y := yX6_in) (lw_S q2777 q2778 q143 q2779) hdS_X6_in (As := [vI l1, vI (0 : Int32), vI (99 : Int32)]) (rest := []) (m_X6_in _ _ _ _ _ _ hv2) (Nat.le_of_ble_eq_true rfl) (Nat.le_of_ble_eq_true rfl) rfl (Nat.le_of_ble_eq_true rfl) dX6_doPut_4 (gCont_i ?_)
  refine gw_if_eq (tgt := 23) dX6_doPut_7 (by decide) (fun hcnd => ?_) (fun hcnd => ?_)
  · rw [if_pos hcnd] at hB
    exact gw_sub [0] rfl (w_X6_doPut_23  _ _ hB)
  · rw [if_neg hcnd] at hB
    refine gw_iload_n 2 rfl dX6_doPut_10 ?_
    refine gw_sipush (v := (-999 : Int32)) (by decide) dX6_doPut_11 ?_
    refine gw_sipush (v := (999 : Int32)) (by decide) dX6_doPut_14 ?_
    obtain ⟨v4, s3, hv4, hB⟩ := gB2_some hB
    refine gw_callS (y := yX6_in) (lw_S q2777 q2778 q143 q2779) hdS_X6_in (As := [vI l2, vI (-999 : Int32), vI (999 : Int32)]) (rest := []) (m_X6_in _ _ _ _ _ _ hv4) (Nat.le_of_ble_eq_true rfl) (Nat.le_of_ble_eq_true rfl) rfl (Nat.le_of_ble_eq_true rfl) dX6_doPut_17 (gCont_i ?_)
    refine gw_if_ne (tgt := 29) dX6_doPut_20 (by decide) (fun hcnd => ?_) (fun hcnd => ?_)
    · rw [if_neg hcnd] at hB
      refine gw_aload_n 0 rfl dX6_doPut_29 ?_
      obtain ⟨v5, hv5, hB⟩ := gB1_some hB
      refine gw_getf (C := RX6) (T := TX6) (N := 13) (k := 0) gcl9 (by decide) in_X6 q2694 (gfR_spec hv5) dX6_doPut_30 ?_
      refine gw_sipush (v := (466 : Int32)) (by decide) dX6_doPut_33 ?_
      obtain ⟨v6, hv6, hB⟩ := gB1_some hB
      refine gw_iaload hv6 dX6_doPut_36 ?_
      refine gw_if_ne (tgt := 46) dX6_doPut_37 (by decide) (fun hcnd => ?_) (fun hcnd => ?_)
      · rw [if_neg hcnd] at hB
        refine gw_aload_n 0 rfl dX6_doPut_46 ?_
        refine gw_iload_n 1 rfl dX6_doPut_47 ?_
        obtain ⟨u0, hu9, hB⟩ := gB1_some hB
        obtain ⟨v8, s7, hv8, hB⟩ := gB2_some hB
        refine gw_callV (y := yX6_bedsOf) (lw_V q2780 q2782 qs54 q143 q2783) hdV_X6_bedsOf gcl9 hu9 (As := [vI l1]) (rest := []) (m_X6_bedsOf _ _ _ _ _ hv8) (Nat.le_of_ble_eq_true rfl) (Nat.le_of_ble_eq_true rfl) rfl (Nat.le_of_ble_eq_true rfl) dX6_doPut_48 (gCont_i ?_)
        exact gw_sub [0, 1, 2] rfl (w_X6_doPut_51  _ _ _ _ _ hB)
      · rw [if_pos hcnd] at hB
        refine gw_sipush (v := (-1000 : Int32)) (by decide) dX6_doPut_40 ?_
        refine gw_goto (tgt := 51) dX6_doPut_43 (by decide) ?_
        exact gw_sub [0, 1, 2] rfl (w_X6_doPut_51  _ _ _ _ _ hB)
    · rw [if_pos hcnd] at hB
      exact gw_sub [0] rfl (w_X6_doPut_23  _ _ hB)
noncomputable def f_X6_doPut (κ : gK) (F : Nat) (a0 : Option Nat) (a1 : Int32) (a2 : Int32) (s : gS) : Option (Int32 × gS) := f_X6_doPut_0 κ F a0 a1 a2 s
theorem m_X6_doPut {E : gE} {F : Nat} (a0 : Option Nat) (a1 : Int32) (a2 : Int32) (s : gS) (r : Int32) (s' : gS) (h : f_X6_doPut (gk E) F a0 a1 a2 s = some (r, s')) : gCT E 7 yX6_doPut (ws_ yX6_doPut cX6_doPut 9 (some FieldType.int)) [vR a0, vI a1, vI a2] s (.inl (some (vI r))) s' := by
  refine gCT_of2 (fun h => absurd h (by decide)) (plainFor_of_name (by decide)) (Nat.le_of_ble_eq_true rfl) ?_
  exact gw_sub [0, 1, 2] rfl (w_X6_doPut_0 _ _ _ _ h)
def dkwX6_put_0 : List UInt8 := [42, 182, 0, 142, 42, 42, 27, 28, 182, 0, 151, 182, 0, 148, 172]
abbrev dktX6_put_0 : List UInt8 := dkwX6_put_0 ++ []
theorem dksX6_put_0 : cX6_put.data.toList.drop 0 = dktX6_put_0 := by decide +kernel
theorem dX6_put_0 : decode cX6_put 0 = .ok (.aload_n 0, 1) := dk_42 (dk_at dksX6_put_0 0 rfl rfl)
theorem dX6_put_1 : decode cX6_put 1 = .ok (.invokevirtual 142, 3) := dk_182 0 142 (dk_at dksX6_put_0 1 rfl rfl)
theorem dX6_put_4 : decode cX6_put 4 = .ok (.aload_n 0, 1) := dk_42 (dk_at dksX6_put_0 4 rfl rfl)
theorem dX6_put_5 : decode cX6_put 5 = .ok (.aload_n 0, 1) := dk_42 (dk_at dksX6_put_0 5 rfl rfl)
theorem dX6_put_6 : decode cX6_put 6 = .ok (.iload_n 1, 1) := dk_27 (dk_at dksX6_put_0 6 rfl rfl)
theorem dX6_put_7 : decode cX6_put 7 = .ok (.iload_n 2, 1) := dk_28 (dk_at dksX6_put_0 7 rfl rfl)
theorem dX6_put_8 : decode cX6_put 8 = .ok (.invokevirtual 151, 3) := dk_182 0 151 (dk_at dksX6_put_0 8 rfl rfl)
theorem dX6_put_11 : decode cX6_put 11 = .ok (.invokevirtual 148, 3) := dk_182 0 148 (dk_at dksX6_put_0 11 rfl rfl)
theorem dX6_put_14 : decode cX6_put 14 = .ok (.ireturn, 1) := dk_172 (dk_at dksX6_put_0 14 rfl rfl)
/-! PageGardenModel.put(II)I -/
abbrev M_X6_put (z0 n0 : Nat) (s' : gS) : gM := (RX6, cX6_put, 3, (some FieldType.int), "put", [], 8, z0, n0, s'.2.1, s'.2.2)
abbrev W_X6_put (E : gE) (z0 n0 : Nat) (r : Int32) (s' : gS) (pc : Nat) (L : List (Nat × gV)) (st : List gV) (s : gS) : Prop := gW E (M_X6_put z0 n0 s') (gQm E (M_X6_put z0 n0 s') (.inl (some (vI r))) s') pc L st s
noncomputable def f_X6_put_0 (κ : gK) (F : Nat)  (l0 : Option Nat) (l1 : Int32) (l2 : Int32) (s : gS) : Option (Int32 × gS) :=
  gB1 (gck s l0 9) fun _ =>
  gB2 (f_X6_hold κ F l0  s) fun v2 s1 =>
  gB1 (gck s1 l0 9) fun _ =>
  gB2 (f_X6_doPut κ F l0 l1 l2 s1) fun v5 s4 =>
  gB1 (gck s4 l0 9) fun _ =>
  gB2 (f_X6_ends κ F l0 v5 s4) fun v8 s7 =>
  some (v8, s7)
set_option maxHeartbeats 4000000 in
theorem w_X6_put_0 {E : gE} {F z0 n0 : Nat} {r : Int32} {s' : gS}   : ∀ (l0 : Option Nat) (l1 : Int32) (l2 : Int32)  (s : gS), f_X6_put_0 (gk E) F  l0 l1 l2 s = some (r, s') → W_X6_put E z0 n0 r s' 0 [(0, vR l0), (1, vI l1), (2, vI l2)] [] s := by
  intro l0 l1 l2 s hB
  unfold f_X6_put_0 at hB
  refine gw_aload_n 0 rfl dX6_put_0 ?_
  obtain ⟨u0, hu3, hB⟩ := gB1_some hB
  obtain ⟨v2, s1, hv2, hB⟩ := gB2_some hB
  refine gw_callV (y := yX6_hold) (lw_V q2742 q2744 qs47 q143 q2745) hdV_X6_hold gcl9 hu3 (As := []) (rest := []) (m_X6_hold _ _ _ _ hv2) (Nat.le_of_ble_eq_true rfl) (Nat.le_of_ble_eq_true rfl) rfl (Nat.le_of_ble_eq_true rfl) dX6_put_1 (gCont_v ?_)
  refine gw_aload_n 0 rfl dX6_put_4 ?_
  refine gw_aload_n 0 rfl dX6_put_5 ?_
  refine gw_iload_n 1 rfl dX6_put_6 ?_
  refine gw_iload_n 2 rfl dX6_put_7 ?_
  obtain ⟨u0, hu6, hB⟩ := gB1_some hB
  obtain ⟨v5, s4, hv5, hB⟩ := gB2_some hB
  refine gw_callV (y := yX6_doPut) (lw_V q2773 q2775 qs53 q143 q2776) hdV_X6_doPut gcl9 hu6 (As := [vI l1, vI l2]) (rest := [vR l0]) (m_X6_doPut _ _ _ _ _ _ hv5) (Nat.le_of_ble_eq_true rfl) (Nat.le_of_ble_eq_true rfl) rfl (Nat.le_of_ble_eq_true rfl) dX6_put_8 (gCont_i ?_)
  obtain ⟨u0, hu9, hB⟩ := gB1_some hB
  obtain ⟨v8, s7, hv8, hB⟩ := gB2_some hB
  refine gw_callV (y := yX6_ends) (lw_V q2765 q2767 qs52 q143 q2768) hdV_X6_ends gcl9 hu9 (As := [vI v5]) (rest := []) (m_X6_ends _ _ _ _ _ hv8) (Nat.le_of_ble_eq_true rfl) (Nat.le_of_ble_eq_true rfl) rfl (Nat.le_of_ble_eq_true rfl) dX6_put_11 (gCont_i ?_)
  obtain ⟨rfl, rfl⟩ := Prod.mk.inj (Option.some.inj hB)
  exact gw_iret rfl rfl rfl dX6_put_14
noncomputable def f_X6_put (κ : gK) (F : Nat) (a0 : Option Nat) (a1 : Int32) (a2 : Int32) (s : gS) : Option (Int32 × gS) := f_X6_put_0 κ F a0 a1 a2 s
theorem m_X6_put {E : gE} {F : Nat} (a0 : Option Nat) (a1 : Int32) (a2 : Int32) (s : gS) (r : Int32) (s' : gS) (h : f_X6_put (gk E) F a0 a1 a2 s = some (r, s')) : gCT E 8 yX6_put (ws_ yX6_put cX6_put 3 (some FieldType.int)) [vR a0, vI a1, vI a2] s (.inl (some (vI r))) s' := by
  refine gCT_of2 (fun h => absurd h (by decide)) (plainFor_of_name (by decide)) (Nat.le_of_ble_eq_true rfl) ?_
  exact gw_sub [0, 1, 2] rfl (w_X6_put_0 _ _ _ _ h)
def dkwX6_valueBy_2 : List UInt8 := [21, 4, 182, 0, 87, 172]
abbrev dktX6_valueBy_2 : List UInt8 := dkwX6_valueBy_2 ++ []
def dkwX6_valueBy_1 : List UInt8 := [182, 0, 84, 54, 4, 21, 4, 156, 0, 9, 17, 252, 24, 167, 0, 15, 42, 42, 27, 29, 182, 0, 75]
abbrev dktX6_valueBy_1 : List UInt8 := dkwX6_valueBy_1 ++ dktX6_valueBy_2
def dkwX6_valueBy_0 : List UInt8 := [42, 27, 28, 182, 0, 81, 62, 29, 156, 0, 7, 2, 167, 0, 14, 42, 42, 27, 29, 182, 0, 75, 28]
abbrev dktX6_valueBy_0 : List UInt8 := dkwX6_valueBy_0 ++ dktX6_valueBy_1
theorem dksX6_valueBy_0 : cX6_valueBy.data.toList.drop 0 = dktX6_valueBy_0 := by decide +kernel
theorem dksX6_valueBy_1 : cX6_valueBy.data.toList.drop 23 = dktX6_valueBy_1 := dk_seg dksX6_valueBy_0 23 rfl rfl
theorem dksX6_valueBy_2 : cX6_valueBy.data.toList.drop 46 = dktX6_valueBy_2 := dk_seg dksX6_valueBy_1 23 rfl rfl
theorem dX6_valueBy_0 : decode cX6_valueBy 0 = .ok (.aload_n 0, 1) := dk_42 (dk_at dksX6_valueBy_0 0 rfl rfl)
theorem dX6_valueBy_1 : decode cX6_valueBy 1 = .ok (.iload_n 1, 1) := dk_27 (dk_at dksX6_valueBy_0 1 rfl rfl)
theorem dX6_valueBy_2 : decode cX6_valueBy 2 = .ok (.iload_n 2, 1) := dk_28 (dk_at dksX6_valueBy_0 2 rfl rfl)
theorem dX6_valueBy_3 : decode cX6_valueBy 3 = .ok (.invokevirtual 81, 3) := dk_182 0 81 (dk_at dksX6_valueBy_0 3 rfl rfl)
theorem dX6_valueBy_6 : decode cX6_valueBy 6 = .ok (.istore_n 3, 1) := dk_62 (dk_at dksX6_valueBy_0 6 rfl rfl)
theorem dX6_valueBy_7 : decode cX6_valueBy 7 = .ok (.iload_n 3, 1) := dk_29 (dk_at dksX6_valueBy_0 7 rfl rfl)
theorem dX6_valueBy_8 : decode cX6_valueBy 8 = .ok (.ifCond .ge 7, 3) := dk_156 0 7 (dk_at dksX6_valueBy_0 8 rfl rfl)
theorem dX6_valueBy_11 : decode cX6_valueBy 11 = .ok (.iconst (-1), 1) := dk_2 (dk_at dksX6_valueBy_0 11 rfl rfl)
theorem dX6_valueBy_12 : decode cX6_valueBy 12 = .ok (.goto 14, 3) := dk_167 0 14 (dk_at dksX6_valueBy_0 12 rfl rfl)
theorem dX6_valueBy_15 : decode cX6_valueBy 15 = .ok (.aload_n 0, 1) := dk_42 (dk_at dksX6_valueBy_0 15 rfl rfl)
theorem dX6_valueBy_16 : decode cX6_valueBy 16 = .ok (.aload_n 0, 1) := dk_42 (dk_at dksX6_valueBy_0 16 rfl rfl)
theorem dX6_valueBy_17 : decode cX6_valueBy 17 = .ok (.iload_n 1, 1) := dk_27 (dk_at dksX6_valueBy_0 17 rfl rfl)
theorem dX6_valueBy_18 : decode cX6_valueBy 18 = .ok (.iload_n 3, 1) := dk_29 (dk_at dksX6_valueBy_0 18 rfl rfl)
theorem dX6_valueBy_19 : decode cX6_valueBy 19 = .ok (.invokevirtual 75, 3) := dk_182 0 75 (dk_at dksX6_valueBy_0 19 rfl rfl)
theorem dX6_valueBy_22 : decode cX6_valueBy 22 = .ok (.iload_n 2, 1) := dk_28 (dk_at dksX6_valueBy_0 22 rfl rfl)
theorem dX6_valueBy_23 : decode cX6_valueBy 23 = .ok (.invokevirtual 84, 3) := dk_182 0 84 (dk_at dksX6_valueBy_1 0 rfl rfl)
theorem dX6_valueBy_26 : decode cX6_valueBy 26 = .ok (.istore 4, 2) := dk_54 4 (dk_at dksX6_valueBy_1 3 rfl rfl)
theorem dX6_valueBy_28 : decode cX6_valueBy 28 = .ok (.iload 4, 2) := dk_21 4 (dk_at dksX6_valueBy_1 5 rfl rfl)
theorem dX6_valueBy_30 : decode cX6_valueBy 30 = .ok (.ifCond .ge 9, 3) := dk_156 0 9 (dk_at dksX6_valueBy_1 7 rfl rfl)
theorem dX6_valueBy_33 : decode cX6_valueBy 33 = .ok (.sipush (-1000), 3) := dk_17 252 24 (dk_at dksX6_valueBy_1 10 rfl rfl)
theorem dX6_valueBy_36 : decode cX6_valueBy 36 = .ok (.goto 15, 3) := dk_167 0 15 (dk_at dksX6_valueBy_1 13 rfl rfl)
theorem dX6_valueBy_39 : decode cX6_valueBy 39 = .ok (.aload_n 0, 1) := dk_42 (dk_at dksX6_valueBy_1 16 rfl rfl)
theorem dX6_valueBy_40 : decode cX6_valueBy 40 = .ok (.aload_n 0, 1) := dk_42 (dk_at dksX6_valueBy_1 17 rfl rfl)
theorem dX6_valueBy_41 : decode cX6_valueBy 41 = .ok (.iload_n 1, 1) := dk_27 (dk_at dksX6_valueBy_1 18 rfl rfl)
theorem dX6_valueBy_42 : decode cX6_valueBy 42 = .ok (.iload_n 3, 1) := dk_29 (dk_at dksX6_valueBy_1 19 rfl rfl)
theorem dX6_valueBy_43 : decode cX6_valueBy 43 = .ok (.invokevirtual 75, 3) := dk_182 0 75 (dk_at dksX6_valueBy_1 20 rfl rfl)
theorem dX6_valueBy_46 : decode cX6_valueBy 46 = .ok (.iload 4, 2) := dk_21 4 (dk_at dksX6_valueBy_2 0 rfl rfl)
theorem dX6_valueBy_48 : decode cX6_valueBy 48 = .ok (.invokevirtual 87, 3) := dk_182 0 87 (dk_at dksX6_valueBy_2 2 rfl rfl)
theorem dX6_valueBy_51 : decode cX6_valueBy 51 = .ok (.ireturn, 1) := dk_172 (dk_at dksX6_valueBy_2 5 rfl rfl)
/-! PageGardenModel.valueBy(II)I -/
abbrev M_X6_valueBy (z0 n0 : Nat) (s' : gS) : gM := (RX6, cX6_valueBy, 5, (some FieldType.int), "valueBy", [], 4, z0, n0, s'.2.1, s'.2.2)
abbrev W_X6_valueBy (E : gE) (z0 n0 : Nat) (r : Int32) (s' : gS) (pc : Nat) (L : List (Nat × gV)) (st : List gV) (s : gS) : Prop := gW E (M_X6_valueBy z0 n0 s') (gQm E (M_X6_valueBy z0 n0 s') (.inl (some (vI r))) s') pc L st s
noncomputable def f_X6_valueBy_51 (κ : gK) (F : Nat)  (t0 : Int32) (s : gS) : Option (Int32 × gS) :=
  some (t0, s)
set_option maxHeartbeats 4000000 in
theorem w_X6_valueBy_51 {E : gE} {F z0 n0 : Nat} {r : Int32} {s' : gS}   : ∀  (t0 : Int32) (s : gS), f_X6_valueBy_51 (gk E) F  t0 s = some (r, s') → W_X6_valueBy E z0 n0 r s' 51 [] [vI t0] s := by
  intro t0 s hB
  unfold f_X6_valueBy_51 at hB
  obtain ⟨rfl, rfl⟩ := Prod.mk.inj (Option.some.inj hB)
  exact gw_iret rfl rfl rfl dX6_valueBy_51
noncomputable def f_X6_valueBy_26 (κ : gK) (F : Nat)  (l0 : Option Nat) (l1 : Int32) (l3 : Int32) (t0 : Int32) (s : gS) : Option (Int32 × gS) :=
  if 0 ≤ t0 then
    gB1 (gck s l0 9) fun _ =>
    gB2 (f_X6_leafAt κ F l0 l1 l3 s) fun v2 s1 =>
    gB1 (gck s1 l0 9) fun _ =>
    gB2 (f_X6_valueAt κ F l0 v2 t0 s1) fun v5 s4 =>
    f_X6_valueBy_51 κ F  v5 s4
  else
    f_X6_valueBy_51 κ F  (-1000 : Int32) s
set_option maxHeartbeats 4000000 in
theorem w_X6_valueBy_26 {E : gE} {F z0 n0 : Nat} {r : Int32} {s' : gS}   : ∀ (l0 : Option Nat) (l1 : Int32) (l3 : Int32) (t0 : Int32) (s : gS), f_X6_valueBy_26 (gk E) F  l0 l1 l3 t0 s = some (r, s') → W_X6_valueBy E z0 n0 r s' 26 [(0, vR l0), (1, vI l1), (3, vI l3)] [vI t0] s := by
  intro l0 l1 l3 t0 s hB
  unfold f_X6_valueBy_26 at hB
  refine gw_istore (L' := [(4, vI t0), (0, vR l0), (1, vI l1), (3, vI l3)]) (Nat.le_of_ble_eq_true rfl) rfl dX6_valueBy_26 ?_
  refine gw_iload 0 rfl dX6_valueBy_28 ?_
  refine gw_if_ge (tgt := 39) dX6_valueBy_30 (by decide) (fun hcnd => ?_) (fun hcnd => ?_)
  · rw [if_pos hcnd] at hB
    refine gw_aload_n 1 rfl dX6_valueBy_39 ?_
    refine gw_aload_n 1 rfl dX6_valueBy_40 ?_
    refine gw_iload_n 2 rfl dX6_valueBy_41 ?_
    refine gw_iload_n 3 rfl dX6_valueBy_42 ?_
    obtain ⟨u0, hu3, hB⟩ := gB1_some hB
    obtain ⟨v2, s1, hv2, hB⟩ := gB2_some hB
    refine gw_callV (y := yX6_leafAt) (lw_V q2800 q2802 qs59 q143 q2803) hdV_X6_leafAt gcl9 hu3 (As := [vI l1, vI l3]) (rest := [vR l0]) (m_X6_leafAt _ _ _ _ _ _ hv2) (Nat.le_of_ble_eq_true rfl) (Nat.le_of_ble_eq_true rfl) rfl (Nat.le_of_ble_eq_true rfl) dX6_valueBy_43 (gCont_i ?_)
    refine gw_iload 0 rfl dX6_valueBy_46 ?_
    obtain ⟨u0, hu6, hB⟩ := gB1_some hB
    obtain ⟨v5, s4, hv5, hB⟩ := gB2_some hB
    refine gw_callV (y := yX6_valueAt) (lw_V q2860 q2862 qs74 q143 q2863) hdV_X6_valueAt gcl9 hu6 (As := [vI v2, vI t0]) (rest := []) (m_X6_valueAt _ _ _ _ _ _ hv5) (Nat.le_of_ble_eq_true rfl) (Nat.le_of_ble_eq_true rfl) rfl (Nat.le_of_ble_eq_true rfl) dX6_valueBy_48 (gCont_i ?_)
    exact gw_sub [] rfl (w_X6_valueBy_51  _ _ hB)
  · rw [if_neg hcnd] at hB
    refine gw_sipush (v := (-1000 : Int32)) (by decide) dX6_valueBy_33 ?_
    refine gw_goto (tgt := 51) dX6_valueBy_36 (by decide) ?_
    exact gw_sub [] rfl (w_X6_valueBy_51  _ _ hB)
noncomputable def f_X6_valueBy_0 (κ : gK) (F : Nat)  (l0 : Option Nat) (l1 : Int32) (l2 : Int32) (s : gS) : Option (Int32 × gS) :=
  gB1 (gck s l0 9) fun _ =>
  gB2 (f_X6_placeFor κ F l0 l1 l2 s) fun v2 s1 =>
  if 0 ≤ v2 then
    gB1 (gck s1 l0 9) fun _ =>
    gB2 (f_X6_leafAt κ F l0 l1 v2 s1) fun v5 s4 =>
    gB1 (gck s4 l0 9) fun _ =>
    gB2 (f_X6_placeIn κ F l0 v5 l2 s4) fun v8 s7 =>
    f_X6_valueBy_26 κ F  l0 l1 v2 v8 s7
  else
    f_X6_valueBy_26 κ F  l0 l1 v2 (-1 : Int32) s1
set_option maxHeartbeats 4000000 in
theorem w_X6_valueBy_0 {E : gE} {F z0 n0 : Nat} {r : Int32} {s' : gS}   : ∀ (l0 : Option Nat) (l1 : Int32) (l2 : Int32)  (s : gS), f_X6_valueBy_0 (gk E) F  l0 l1 l2 s = some (r, s') → W_X6_valueBy E z0 n0 r s' 0 [(0, vR l0), (1, vI l1), (2, vI l2)] [] s := by
  intro l0 l1 l2 s hB
  unfold f_X6_valueBy_0 at hB
  refine gw_aload_n 0 rfl dX6_valueBy_0 ?_
  refine gw_iload_n 1 rfl dX6_valueBy_1 ?_
  refine gw_iload_n 2 rfl dX6_valueBy_2 ?_
  obtain ⟨u0, hu3, hB⟩ := gB1_some hB
  obtain ⟨v2, s1, hv2, hB⟩ := gB2_some hB
  refine gw_callV (y := yX6_placeFor) (lw_V q2792 q2794 qs57 q143 q2795) hdV_X6_placeFor gcl9 hu3 (As := [vI l1, vI l2]) (rest := []) (m_X6_placeFor _ _ _ _ _ _ hv2) (Nat.le_of_ble_eq_true rfl) (Nat.le_of_ble_eq_true rfl) rfl (Nat.le_of_ble_eq_true rfl) dX6_valueBy_3 (gCont_i ?_)
  refine gw_istore_n (L' := [(3, vI v2), (0, vR l0), (1, vI l1), (2, vI l2)]) (Nat.le_of_ble_eq_true rfl) rfl dX6_valueBy_6 ?_
  refine gw_iload_n 0 rfl dX6_valueBy_7 ?_
  refine gw_if_ge (tgt := 15) dX6_valueBy_8 (by decide) (fun hcnd => ?_) (fun hcnd => ?_)
  · rw [if_pos hcnd] at hB
    refine gw_aload_n 1 rfl dX6_valueBy_15 ?_
    refine gw_aload_n 1 rfl dX6_valueBy_16 ?_
    refine gw_iload_n 2 rfl dX6_valueBy_17 ?_
    refine gw_iload_n 0 rfl dX6_valueBy_18 ?_
    obtain ⟨u0, hu6, hB⟩ := gB1_some hB
    obtain ⟨v5, s4, hv5, hB⟩ := gB2_some hB
    refine gw_callV (y := yX6_leafAt) (lw_V q2800 q2802 qs59 q143 q2803) hdV_X6_leafAt gcl9 hu6 (As := [vI l1, vI v2]) (rest := [vR l0]) (m_X6_leafAt _ _ _ _ _ _ hv5) (Nat.le_of_ble_eq_true rfl) (Nat.le_of_ble_eq_true rfl) rfl (Nat.le_of_ble_eq_true rfl) dX6_valueBy_19 (gCont_i ?_)
    refine gw_iload_n 3 rfl dX6_valueBy_22 ?_
    obtain ⟨u0, hu9, hB⟩ := gB1_some hB
    obtain ⟨v8, s7, hv8, hB⟩ := gB2_some hB
    refine gw_callV (y := yX6_placeIn) (lw_V q2808 q2810 qs61 q143 q2811) hdV_X6_placeIn gcl9 hu9 (As := [vI v5, vI l2]) (rest := []) (m_X6_placeIn _ _ _ _ _ _ hv8) (Nat.le_of_ble_eq_true rfl) (Nat.le_of_ble_eq_true rfl) rfl (Nat.le_of_ble_eq_true rfl) dX6_valueBy_23 (gCont_i ?_)
    exact gw_sub [1, 2, 0] rfl (w_X6_valueBy_26  _ _ _ _ _ hB)
  · rw [if_neg hcnd] at hB
    refine gw_iconst (v := (-1 : Int32)) (by decide) dX6_valueBy_11 ?_
    refine gw_goto (tgt := 26) dX6_valueBy_12 (by decide) ?_
    exact gw_sub [1, 2, 0] rfl (w_X6_valueBy_26  _ _ _ _ _ hB)
noncomputable def f_X6_valueBy (κ : gK) (F : Nat) (a0 : Option Nat) (a1 : Int32) (a2 : Int32) (s : gS) : Option (Int32 × gS) := f_X6_valueBy_0 κ F a0 a1 a2 s
theorem m_X6_valueBy {E : gE} {F : Nat} (a0 : Option Nat) (a1 : Int32) (a2 : Int32) (s : gS) (r : Int32) (s' : gS) (h : f_X6_valueBy (gk E) F a0 a1 a2 s = some (r, s')) : gCT E 4 yX6_valueBy (ws_ yX6_valueBy cX6_valueBy 5 (some FieldType.int)) [vR a0, vI a1, vI a2] s (.inl (some (vI r))) s' := by
  refine gCT_of2 (fun h => absurd h (by decide)) (plainFor_of_name (by decide)) (Nat.le_of_ble_eq_true rfl) ?_
  exact gw_sub [0, 1, 2] rfl (w_X6_valueBy_0 _ _ _ _ h)
def dkwX6_doRemove_13 : List UInt8 := [182, 0, 53, 4, 100, 182, 0, 67, 28, 172]
abbrev dktX6_doRemove_13 : List UInt8 := dkwX6_doRemove_13 ++ []
def dkwX6_doRemove_12 : List UInt8 := [21, 9, 4, 96, 182, 0, 87, 182, 0, 106, 132, 9, 1, 167, 255, 211, 42, 21, 8, 5, 42, 21, 8, 5]
abbrev dktX6_doRemove_12 : List UInt8 := dkwX6_doRemove_12 ++ dktX6_doRemove_13
def dkwX6_doRemove_11 : List UInt8 := [182, 0, 53, 162, 0, 37, 42, 21, 8, 21, 9, 42, 21, 8, 21, 9, 4, 96, 182, 0, 78, 42, 21, 8]
abbrev dktX6_doRemove_11 : List UInt8 := dkwX6_doRemove_11 ++ dktX6_doRemove_12
def dkwX6_doRemove_10 : List UInt8 := [182, 0, 132, 54, 8, 42, 21, 8, 27, 182, 0, 84, 54, 9, 21, 9, 4, 96, 42, 21, 8, 5]
abbrev dktX6_doRemove_10 : List UInt8 := dkwX6_doRemove_10 ++ dktX6_doRemove_11
def dkwX6_doRemove_9 : List UInt8 := [42, 21, 7, 5, 42, 21, 7, 5, 182, 0, 53, 4, 100, 182, 0, 67, 28, 172, 42, 21, 7, 29]
abbrev dktX6_doRemove_9 : List UInt8 := dkwX6_doRemove_9 ++ dktX6_doRemove_10
def dkwX6_doRemove_8 : List UInt8 := [16, 6, 21, 8, 96, 42, 21, 7, 21, 8, 4, 96, 182, 0, 75, 182, 0, 67, 132, 8, 1, 167, 255, 218]
abbrev dktX6_doRemove_8 : List UInt8 := dkwX6_doRemove_8 ++ dktX6_doRemove_9
def dkwX6_doRemove_7 : List UInt8 := [182, 0, 103, 29, 54, 8, 21, 8, 4, 96, 42, 21, 7, 5, 182, 0, 53, 162, 0, 30, 42, 21, 7]
abbrev dktX6_doRemove_7 : List UInt8 := dkwX6_doRemove_7 ++ dktX6_doRemove_8
def dkwX6_doRemove_6 : List UInt8 := [164, 0, 9, 42, 5, 182, 0, 117, 172, 42, 182, 0, 126, 54, 7, 21, 5, 153, 0, 71, 42, 21, 4]
abbrev dktX6_doRemove_6 : List UInt8 := dkwX6_doRemove_6 ++ dktX6_doRemove_7
def dkwX6_doRemove_5 : List UInt8 := [7, 182, 0, 53, 4, 160, 0, 7, 3, 167, 0, 4, 4, 96, 54, 6, 21, 6, 42, 182, 0, 123]
abbrev dktX6_doRemove_5 : List UInt8 := dkwX6_doRemove_5 ++ dktX6_doRemove_6
def dkwX6_doRemove_4 : List UInt8 := [42, 180, 0, 7, 17, 1, 211, 46, 156, 0, 7, 4, 167, 0, 4, 3, 21, 5, 154, 0, 14, 42, 21, 4]
abbrev dktX6_doRemove_4 : List UInt8 := dkwX6_doRemove_4 ++ dktX6_doRemove_5
def dkwX6_doRemove_3 : List UInt8 := [29, 182, 0, 75, 54, 4, 42, 21, 4, 5, 182, 0, 53, 4, 160, 0, 7, 4, 167, 0, 4, 3, 54, 5]
abbrev dktX6_doRemove_3 : List UInt8 := dkwX6_doRemove_3 ++ dktX6_doRemove_4
def dkwX6_doRemove_2 : List UInt8 := [160, 0, 9, 42, 5, 182, 0, 117, 172, 42, 42, 182, 0, 93, 27, 182, 0, 81, 62, 42, 42, 182, 0, 93]
abbrev dktX6_doRemove_2 : List UInt8 := dkwX6_doRemove_2 ++ dktX6_doRemove_3
def dkwX6_doRemove_1 : List UInt8 := [154, 0, 9, 17, 252, 24, 167, 0, 12, 42, 42, 182, 0, 93, 27, 182, 0, 139, 61, 28, 17, 252, 24]
abbrev dktX6_doRemove_1 : List UInt8 := dkwX6_doRemove_1 ++ dktX6_doRemove_2
def dkwX6_doRemove_0 : List UInt8 := [27, 3, 16, 99, 184, 0, 113, 154, 0, 9, 42, 4, 182, 0, 117, 172, 42, 180, 0, 7, 17, 1, 210, 46]
abbrev dktX6_doRemove_0 : List UInt8 := dkwX6_doRemove_0 ++ dktX6_doRemove_1
theorem dksX6_doRemove_0 : cX6_doRemove.data.toList.drop 0 = dktX6_doRemove_0 := by decide +kernel
theorem dksX6_doRemove_1 : cX6_doRemove.data.toList.drop 24 = dktX6_doRemove_1 := dk_seg dksX6_doRemove_0 24 rfl rfl
theorem dksX6_doRemove_2 : cX6_doRemove.data.toList.drop 47 = dktX6_doRemove_2 := dk_seg dksX6_doRemove_1 23 rfl rfl
theorem dksX6_doRemove_3 : cX6_doRemove.data.toList.drop 71 = dktX6_doRemove_3 := dk_seg dksX6_doRemove_2 24 rfl rfl
theorem dksX6_doRemove_4 : cX6_doRemove.data.toList.drop 95 = dktX6_doRemove_4 := dk_seg dksX6_doRemove_3 24 rfl rfl
theorem dksX6_doRemove_5 : cX6_doRemove.data.toList.drop 119 = dktX6_doRemove_5 := dk_seg dksX6_doRemove_4 24 rfl rfl
theorem dksX6_doRemove_6 : cX6_doRemove.data.toList.drop 141 = dktX6_doRemove_6 := dk_seg dksX6_doRemove_5 22 rfl rfl
theorem dksX6_doRemove_7 : cX6_doRemove.data.toList.drop 164 = dktX6_doRemove_7 := dk_seg dksX6_doRemove_6 23 rfl rfl
theorem dksX6_doRemove_8 : cX6_doRemove.data.toList.drop 187 = dktX6_doRemove_8 := dk_seg dksX6_doRemove_7 23 rfl rfl
theorem dksX6_doRemove_9 : cX6_doRemove.data.toList.drop 211 = dktX6_doRemove_9 := dk_seg dksX6_doRemove_8 24 rfl rfl
theorem dksX6_doRemove_10 : cX6_doRemove.data.toList.drop 233 = dktX6_doRemove_10 := dk_seg dksX6_doRemove_9 22 rfl rfl
theorem dksX6_doRemove_11 : cX6_doRemove.data.toList.drop 255 = dktX6_doRemove_11 := dk_seg dksX6_doRemove_10 22 rfl rfl
theorem dksX6_doRemove_12 : cX6_doRemove.data.toList.drop 279 = dktX6_doRemove_12 := dk_seg dksX6_doRemove_11 24 rfl rfl
theorem dksX6_doRemove_13 : cX6_doRemove.data.toList.drop 303 = dktX6_doRemove_13 := dk_seg dksX6_doRemove_12 24 rfl rfl
theorem dX6_doRemove_0 : decode cX6_doRemove 0 = .ok (.iload_n 1, 1) := dk_27 (dk_at dksX6_doRemove_0 0 rfl rfl)
theorem dX6_doRemove_1 : decode cX6_doRemove 1 = .ok (.iconst 0, 1) := dk_3 (dk_at dksX6_doRemove_0 1 rfl rfl)
theorem dX6_doRemove_2 : decode cX6_doRemove 2 = .ok (.bipush 99, 2) := dk_16 99 (dk_at dksX6_doRemove_0 2 rfl rfl)
theorem dX6_doRemove_4 : decode cX6_doRemove 4 = .ok (.invokestatic 113, 3) := dk_184 0 113 (dk_at dksX6_doRemove_0 4 rfl rfl)
theorem dX6_doRemove_7 : decode cX6_doRemove 7 = .ok (.ifCond .ne 9, 3) := dk_154 0 9 (dk_at dksX6_doRemove_0 7 rfl rfl)
theorem dX6_doRemove_10 : decode cX6_doRemove 10 = .ok (.aload_n 0, 1) := dk_42 (dk_at dksX6_doRemove_0 10 rfl rfl)
theorem dX6_doRemove_11 : decode cX6_doRemove 11 = .ok (.iconst 1, 1) := dk_4 (dk_at dksX6_doRemove_0 11 rfl rfl)
theorem dX6_doRemove_12 : decode cX6_doRemove 12 = .ok (.invokevirtual 117, 3) := dk_182 0 117 (dk_at dksX6_doRemove_0 12 rfl rfl)
theorem dX6_doRemove_15 : decode cX6_doRemove 15 = .ok (.ireturn, 1) := dk_172 (dk_at dksX6_doRemove_0 15 rfl rfl)
theorem dX6_doRemove_16 : decode cX6_doRemove 16 = .ok (.aload_n 0, 1) := dk_42 (dk_at dksX6_doRemove_0 16 rfl rfl)
theorem dX6_doRemove_17 : decode cX6_doRemove 17 = .ok (.getfield 7, 3) := dk_180 0 7 (dk_at dksX6_doRemove_0 17 rfl rfl)
theorem dX6_doRemove_20 : decode cX6_doRemove 20 = .ok (.sipush 466, 3) := dk_17 1 210 (dk_at dksX6_doRemove_0 20 rfl rfl)
theorem dX6_doRemove_23 : decode cX6_doRemove 23 = .ok (.iaload, 1) := dk_46 (dk_at dksX6_doRemove_0 23 rfl rfl)
theorem dX6_doRemove_24 : decode cX6_doRemove 24 = .ok (.ifCond .ne 9, 3) := dk_154 0 9 (dk_at dksX6_doRemove_1 0 rfl rfl)
theorem dX6_doRemove_27 : decode cX6_doRemove 27 = .ok (.sipush (-1000), 3) := dk_17 252 24 (dk_at dksX6_doRemove_1 3 rfl rfl)
theorem dX6_doRemove_30 : decode cX6_doRemove 30 = .ok (.goto 12, 3) := dk_167 0 12 (dk_at dksX6_doRemove_1 6 rfl rfl)
theorem dX6_doRemove_33 : decode cX6_doRemove 33 = .ok (.aload_n 0, 1) := dk_42 (dk_at dksX6_doRemove_1 9 rfl rfl)
theorem dX6_doRemove_34 : decode cX6_doRemove 34 = .ok (.aload_n 0, 1) := dk_42 (dk_at dksX6_doRemove_1 10 rfl rfl)
theorem dX6_doRemove_35 : decode cX6_doRemove 35 = .ok (.invokevirtual 93, 3) := dk_182 0 93 (dk_at dksX6_doRemove_1 11 rfl rfl)
theorem dX6_doRemove_38 : decode cX6_doRemove 38 = .ok (.iload_n 1, 1) := dk_27 (dk_at dksX6_doRemove_1 14 rfl rfl)
theorem dX6_doRemove_39 : decode cX6_doRemove 39 = .ok (.invokevirtual 139, 3) := dk_182 0 139 (dk_at dksX6_doRemove_1 15 rfl rfl)
theorem dX6_doRemove_42 : decode cX6_doRemove 42 = .ok (.istore_n 2, 1) := dk_61 (dk_at dksX6_doRemove_1 18 rfl rfl)
theorem dX6_doRemove_43 : decode cX6_doRemove 43 = .ok (.iload_n 2, 1) := dk_28 (dk_at dksX6_doRemove_1 19 rfl rfl)
theorem dX6_doRemove_44 : decode cX6_doRemove 44 = .ok (.sipush (-1000), 3) := dk_17 252 24 (dk_at dksX6_doRemove_1 20 rfl rfl)
theorem dX6_doRemove_47 : decode cX6_doRemove 47 = .ok (.if_icmp .ne 9, 3) := dk_160 0 9 (dk_at dksX6_doRemove_2 0 rfl rfl)
theorem dX6_doRemove_50 : decode cX6_doRemove 50 = .ok (.aload_n 0, 1) := dk_42 (dk_at dksX6_doRemove_2 3 rfl rfl)
theorem dX6_doRemove_51 : decode cX6_doRemove 51 = .ok (.iconst 2, 1) := dk_5 (dk_at dksX6_doRemove_2 4 rfl rfl)
theorem dX6_doRemove_52 : decode cX6_doRemove 52 = .ok (.invokevirtual 117, 3) := dk_182 0 117 (dk_at dksX6_doRemove_2 5 rfl rfl)
theorem dX6_doRemove_55 : decode cX6_doRemove 55 = .ok (.ireturn, 1) := dk_172 (dk_at dksX6_doRemove_2 8 rfl rfl)
theorem dX6_doRemove_56 : decode cX6_doRemove 56 = .ok (.aload_n 0, 1) := dk_42 (dk_at dksX6_doRemove_2 9 rfl rfl)
theorem dX6_doRemove_57 : decode cX6_doRemove 57 = .ok (.aload_n 0, 1) := dk_42 (dk_at dksX6_doRemove_2 10 rfl rfl)
theorem dX6_doRemove_58 : decode cX6_doRemove 58 = .ok (.invokevirtual 93, 3) := dk_182 0 93 (dk_at dksX6_doRemove_2 11 rfl rfl)
theorem dX6_doRemove_61 : decode cX6_doRemove 61 = .ok (.iload_n 1, 1) := dk_27 (dk_at dksX6_doRemove_2 14 rfl rfl)
theorem dX6_doRemove_62 : decode cX6_doRemove 62 = .ok (.invokevirtual 81, 3) := dk_182 0 81 (dk_at dksX6_doRemove_2 15 rfl rfl)
theorem dX6_doRemove_65 : decode cX6_doRemove 65 = .ok (.istore_n 3, 1) := dk_62 (dk_at dksX6_doRemove_2 18 rfl rfl)
theorem dX6_doRemove_66 : decode cX6_doRemove 66 = .ok (.aload_n 0, 1) := dk_42 (dk_at dksX6_doRemove_2 19 rfl rfl)
theorem dX6_doRemove_67 : decode cX6_doRemove 67 = .ok (.aload_n 0, 1) := dk_42 (dk_at dksX6_doRemove_2 20 rfl rfl)
theorem dX6_doRemove_68 : decode cX6_doRemove 68 = .ok (.invokevirtual 93, 3) := dk_182 0 93 (dk_at dksX6_doRemove_2 21 rfl rfl)
theorem dX6_doRemove_71 : decode cX6_doRemove 71 = .ok (.iload_n 3, 1) := dk_29 (dk_at dksX6_doRemove_3 0 rfl rfl)
theorem dX6_doRemove_72 : decode cX6_doRemove 72 = .ok (.invokevirtual 75, 3) := dk_182 0 75 (dk_at dksX6_doRemove_3 1 rfl rfl)
theorem dX6_doRemove_75 : decode cX6_doRemove 75 = .ok (.istore 4, 2) := dk_54 4 (dk_at dksX6_doRemove_3 4 rfl rfl)
theorem dX6_doRemove_77 : decode cX6_doRemove 77 = .ok (.aload_n 0, 1) := dk_42 (dk_at dksX6_doRemove_3 6 rfl rfl)
theorem dX6_doRemove_78 : decode cX6_doRemove 78 = .ok (.iload 4, 2) := dk_21 4 (dk_at dksX6_doRemove_3 7 rfl rfl)
theorem dX6_doRemove_80 : decode cX6_doRemove 80 = .ok (.iconst 2, 1) := dk_5 (dk_at dksX6_doRemove_3 9 rfl rfl)
theorem dX6_doRemove_81 : decode cX6_doRemove 81 = .ok (.invokevirtual 53, 3) := dk_182 0 53 (dk_at dksX6_doRemove_3 10 rfl rfl)
theorem dX6_doRemove_84 : decode cX6_doRemove 84 = .ok (.iconst 1, 1) := dk_4 (dk_at dksX6_doRemove_3 13 rfl rfl)
theorem dX6_doRemove_85 : decode cX6_doRemove 85 = .ok (.if_icmp .ne 7, 3) := dk_160 0 7 (dk_at dksX6_doRemove_3 14 rfl rfl)
theorem dX6_doRemove_88 : decode cX6_doRemove 88 = .ok (.iconst 1, 1) := dk_4 (dk_at dksX6_doRemove_3 17 rfl rfl)
theorem dX6_doRemove_89 : decode cX6_doRemove 89 = .ok (.goto 4, 3) := dk_167 0 4 (dk_at dksX6_doRemove_3 18 rfl rfl)
theorem dX6_doRemove_92 : decode cX6_doRemove 92 = .ok (.iconst 0, 1) := dk_3 (dk_at dksX6_doRemove_3 21 rfl rfl)
theorem dX6_doRemove_93 : decode cX6_doRemove 93 = .ok (.istore 5, 2) := dk_54 5 (dk_at dksX6_doRemove_3 22 rfl rfl)
theorem dX6_doRemove_95 : decode cX6_doRemove 95 = .ok (.aload_n 0, 1) := dk_42 (dk_at dksX6_doRemove_4 0 rfl rfl)
theorem dX6_doRemove_96 : decode cX6_doRemove 96 = .ok (.getfield 7, 3) := dk_180 0 7 (dk_at dksX6_doRemove_4 1 rfl rfl)
theorem dX6_doRemove_99 : decode cX6_doRemove 99 = .ok (.sipush 467, 3) := dk_17 1 211 (dk_at dksX6_doRemove_4 4 rfl rfl)
theorem dX6_doRemove_102 : decode cX6_doRemove 102 = .ok (.iaload, 1) := dk_46 (dk_at dksX6_doRemove_4 7 rfl rfl)
theorem dX6_doRemove_103 : decode cX6_doRemove 103 = .ok (.ifCond .ge 7, 3) := dk_156 0 7 (dk_at dksX6_doRemove_4 8 rfl rfl)
theorem dX6_doRemove_106 : decode cX6_doRemove 106 = .ok (.iconst 1, 1) := dk_4 (dk_at dksX6_doRemove_4 11 rfl rfl)
theorem dX6_doRemove_107 : decode cX6_doRemove 107 = .ok (.goto 4, 3) := dk_167 0 4 (dk_at dksX6_doRemove_4 12 rfl rfl)
theorem dX6_doRemove_110 : decode cX6_doRemove 110 = .ok (.iconst 0, 1) := dk_3 (dk_at dksX6_doRemove_4 15 rfl rfl)
theorem dX6_doRemove_111 : decode cX6_doRemove 111 = .ok (.iload 5, 2) := dk_21 5 (dk_at dksX6_doRemove_4 16 rfl rfl)
theorem dX6_doRemove_113 : decode cX6_doRemove 113 = .ok (.ifCond .ne 14, 3) := dk_154 0 14 (dk_at dksX6_doRemove_4 18 rfl rfl)
theorem dX6_doRemove_116 : decode cX6_doRemove 116 = .ok (.aload_n 0, 1) := dk_42 (dk_at dksX6_doRemove_4 21 rfl rfl)
theorem dX6_doRemove_117 : decode cX6_doRemove 117 = .ok (.iload 4, 2) := dk_21 4 (dk_at dksX6_doRemove_4 22 rfl rfl)
theorem dX6_doRemove_119 : decode cX6_doRemove 119 = .ok (.iconst 4, 1) := dk_7 (dk_at dksX6_doRemove_5 0 rfl rfl)
theorem dX6_doRemove_120 : decode cX6_doRemove 120 = .ok (.invokevirtual 53, 3) := dk_182 0 53 (dk_at dksX6_doRemove_5 1 rfl rfl)
theorem dX6_doRemove_123 : decode cX6_doRemove 123 = .ok (.iconst 1, 1) := dk_4 (dk_at dksX6_doRemove_5 4 rfl rfl)
theorem dX6_doRemove_124 : decode cX6_doRemove 124 = .ok (.if_icmp .ne 7, 3) := dk_160 0 7 (dk_at dksX6_doRemove_5 5 rfl rfl)
theorem dX6_doRemove_127 : decode cX6_doRemove 127 = .ok (.iconst 0, 1) := dk_3 (dk_at dksX6_doRemove_5 8 rfl rfl)
theorem dX6_doRemove_128 : decode cX6_doRemove 128 = .ok (.goto 4, 3) := dk_167 0 4 (dk_at dksX6_doRemove_5 9 rfl rfl)
theorem dX6_doRemove_131 : decode cX6_doRemove 131 = .ok (.iconst 1, 1) := dk_4 (dk_at dksX6_doRemove_5 12 rfl rfl)
theorem dX6_doRemove_132 : decode cX6_doRemove 132 = .ok (.iadd, 1) := dk_96 (dk_at dksX6_doRemove_5 13 rfl rfl)
theorem dX6_doRemove_133 : decode cX6_doRemove 133 = .ok (.istore 6, 2) := dk_54 6 (dk_at dksX6_doRemove_5 14 rfl rfl)
theorem dX6_doRemove_135 : decode cX6_doRemove 135 = .ok (.iload 6, 2) := dk_21 6 (dk_at dksX6_doRemove_5 16 rfl rfl)
theorem dX6_doRemove_137 : decode cX6_doRemove 137 = .ok (.aload_n 0, 1) := dk_42 (dk_at dksX6_doRemove_5 18 rfl rfl)
theorem dX6_doRemove_138 : decode cX6_doRemove 138 = .ok (.invokevirtual 123, 3) := dk_182 0 123 (dk_at dksX6_doRemove_5 19 rfl rfl)
theorem dX6_doRemove_141 : decode cX6_doRemove 141 = .ok (.if_icmp .le 9, 3) := dk_164 0 9 (dk_at dksX6_doRemove_6 0 rfl rfl)
theorem dX6_doRemove_144 : decode cX6_doRemove 144 = .ok (.aload_n 0, 1) := dk_42 (dk_at dksX6_doRemove_6 3 rfl rfl)
theorem dX6_doRemove_145 : decode cX6_doRemove 145 = .ok (.iconst 2, 1) := dk_5 (dk_at dksX6_doRemove_6 4 rfl rfl)
theorem dX6_doRemove_146 : decode cX6_doRemove 146 = .ok (.invokevirtual 117, 3) := dk_182 0 117 (dk_at dksX6_doRemove_6 5 rfl rfl)
theorem dX6_doRemove_149 : decode cX6_doRemove 149 = .ok (.ireturn, 1) := dk_172 (dk_at dksX6_doRemove_6 8 rfl rfl)
theorem dX6_doRemove_150 : decode cX6_doRemove 150 = .ok (.aload_n 0, 1) := dk_42 (dk_at dksX6_doRemove_6 9 rfl rfl)
theorem dX6_doRemove_151 : decode cX6_doRemove 151 = .ok (.invokevirtual 126, 3) := dk_182 0 126 (dk_at dksX6_doRemove_6 10 rfl rfl)
theorem dX6_doRemove_154 : decode cX6_doRemove 154 = .ok (.istore 7, 2) := dk_54 7 (dk_at dksX6_doRemove_6 13 rfl rfl)
theorem dX6_doRemove_156 : decode cX6_doRemove 156 = .ok (.iload 5, 2) := dk_21 5 (dk_at dksX6_doRemove_6 15 rfl rfl)
theorem dX6_doRemove_158 : decode cX6_doRemove 158 = .ok (.ifCond .eq 71, 3) := dk_153 0 71 (dk_at dksX6_doRemove_6 17 rfl rfl)
theorem dX6_doRemove_161 : decode cX6_doRemove 161 = .ok (.aload_n 0, 1) := dk_42 (dk_at dksX6_doRemove_6 20 rfl rfl)
theorem dX6_doRemove_162 : decode cX6_doRemove 162 = .ok (.iload 4, 2) := dk_21 4 (dk_at dksX6_doRemove_6 21 rfl rfl)
theorem dX6_doRemove_164 : decode cX6_doRemove 164 = .ok (.invokevirtual 103, 3) := dk_182 0 103 (dk_at dksX6_doRemove_7 0 rfl rfl)
theorem dX6_doRemove_167 : decode cX6_doRemove 167 = .ok (.iload_n 3, 1) := dk_29 (dk_at dksX6_doRemove_7 3 rfl rfl)
theorem dX6_doRemove_168 : decode cX6_doRemove 168 = .ok (.istore 8, 2) := dk_54 8 (dk_at dksX6_doRemove_7 4 rfl rfl)
theorem dX6_doRemove_170 : decode cX6_doRemove 170 = .ok (.iload 8, 2) := dk_21 8 (dk_at dksX6_doRemove_7 6 rfl rfl)
theorem dX6_doRemove_172 : decode cX6_doRemove 172 = .ok (.iconst 1, 1) := dk_4 (dk_at dksX6_doRemove_7 8 rfl rfl)
theorem dX6_doRemove_173 : decode cX6_doRemove 173 = .ok (.iadd, 1) := dk_96 (dk_at dksX6_doRemove_7 9 rfl rfl)
theorem dX6_doRemove_174 : decode cX6_doRemove 174 = .ok (.aload_n 0, 1) := dk_42 (dk_at dksX6_doRemove_7 10 rfl rfl)
theorem dX6_doRemove_175 : decode cX6_doRemove 175 = .ok (.iload 7, 2) := dk_21 7 (dk_at dksX6_doRemove_7 11 rfl rfl)
theorem dX6_doRemove_177 : decode cX6_doRemove 177 = .ok (.iconst 2, 1) := dk_5 (dk_at dksX6_doRemove_7 13 rfl rfl)
theorem dX6_doRemove_178 : decode cX6_doRemove 178 = .ok (.invokevirtual 53, 3) := dk_182 0 53 (dk_at dksX6_doRemove_7 14 rfl rfl)
theorem dX6_doRemove_181 : decode cX6_doRemove 181 = .ok (.if_icmp .ge 30, 3) := dk_162 0 30 (dk_at dksX6_doRemove_7 17 rfl rfl)
theorem dX6_doRemove_184 : decode cX6_doRemove 184 = .ok (.aload_n 0, 1) := dk_42 (dk_at dksX6_doRemove_7 20 rfl rfl)
theorem dX6_doRemove_185 : decode cX6_doRemove 185 = .ok (.iload 7, 2) := dk_21 7 (dk_at dksX6_doRemove_7 21 rfl rfl)
theorem dX6_doRemove_187 : decode cX6_doRemove 187 = .ok (.bipush 6, 2) := dk_16 6 (dk_at dksX6_doRemove_8 0 rfl rfl)
theorem dX6_doRemove_189 : decode cX6_doRemove 189 = .ok (.iload 8, 2) := dk_21 8 (dk_at dksX6_doRemove_8 2 rfl rfl)
theorem dX6_doRemove_191 : decode cX6_doRemove 191 = .ok (.iadd, 1) := dk_96 (dk_at dksX6_doRemove_8 4 rfl rfl)
theorem dX6_doRemove_192 : decode cX6_doRemove 192 = .ok (.aload_n 0, 1) := dk_42 (dk_at dksX6_doRemove_8 5 rfl rfl)
theorem dX6_doRemove_193 : decode cX6_doRemove 193 = .ok (.iload 7, 2) := dk_21 7 (dk_at dksX6_doRemove_8 6 rfl rfl)
theorem dX6_doRemove_195 : decode cX6_doRemove 195 = .ok (.iload 8, 2) := dk_21 8 (dk_at dksX6_doRemove_8 8 rfl rfl)
theorem dX6_doRemove_197 : decode cX6_doRemove 197 = .ok (.iconst 1, 1) := dk_4 (dk_at dksX6_doRemove_8 10 rfl rfl)
theorem dX6_doRemove_198 : decode cX6_doRemove 198 = .ok (.iadd, 1) := dk_96 (dk_at dksX6_doRemove_8 11 rfl rfl)
theorem dX6_doRemove_199 : decode cX6_doRemove 199 = .ok (.invokevirtual 75, 3) := dk_182 0 75 (dk_at dksX6_doRemove_8 12 rfl rfl)
theorem dX6_doRemove_202 : decode cX6_doRemove 202 = .ok (.invokevirtual 67, 3) := dk_182 0 67 (dk_at dksX6_doRemove_8 15 rfl rfl)
theorem dX6_doRemove_205 : decode cX6_doRemove 205 = .ok (.iinc 8 1, 3) := dk_132 8 1 (dk_at dksX6_doRemove_8 18 rfl rfl)
theorem dX6_doRemove_208 : decode cX6_doRemove 208 = .ok (.goto (-38), 3) := dk_167 255 218 (dk_at dksX6_doRemove_8 21 rfl rfl)
theorem dX6_doRemove_211 : decode cX6_doRemove 211 = .ok (.aload_n 0, 1) := dk_42 (dk_at dksX6_doRemove_9 0 rfl rfl)
theorem dX6_doRemove_212 : decode cX6_doRemove 212 = .ok (.iload 7, 2) := dk_21 7 (dk_at dksX6_doRemove_9 1 rfl rfl)
theorem dX6_doRemove_214 : decode cX6_doRemove 214 = .ok (.iconst 2, 1) := dk_5 (dk_at dksX6_doRemove_9 3 rfl rfl)
theorem dX6_doRemove_215 : decode cX6_doRemove 215 = .ok (.aload_n 0, 1) := dk_42 (dk_at dksX6_doRemove_9 4 rfl rfl)
theorem dX6_doRemove_216 : decode cX6_doRemove 216 = .ok (.iload 7, 2) := dk_21 7 (dk_at dksX6_doRemove_9 5 rfl rfl)
theorem dX6_doRemove_218 : decode cX6_doRemove 218 = .ok (.iconst 2, 1) := dk_5 (dk_at dksX6_doRemove_9 7 rfl rfl)
theorem dX6_doRemove_219 : decode cX6_doRemove 219 = .ok (.invokevirtual 53, 3) := dk_182 0 53 (dk_at dksX6_doRemove_9 8 rfl rfl)
theorem dX6_doRemove_222 : decode cX6_doRemove 222 = .ok (.iconst 1, 1) := dk_4 (dk_at dksX6_doRemove_9 11 rfl rfl)
theorem dX6_doRemove_223 : decode cX6_doRemove 223 = .ok (.isub, 1) := dk_100 (dk_at dksX6_doRemove_9 12 rfl rfl)
theorem dX6_doRemove_224 : decode cX6_doRemove 224 = .ok (.invokevirtual 67, 3) := dk_182 0 67 (dk_at dksX6_doRemove_9 13 rfl rfl)
theorem dX6_doRemove_227 : decode cX6_doRemove 227 = .ok (.iload_n 2, 1) := dk_28 (dk_at dksX6_doRemove_9 16 rfl rfl)
theorem dX6_doRemove_228 : decode cX6_doRemove 228 = .ok (.ireturn, 1) := dk_172 (dk_at dksX6_doRemove_9 17 rfl rfl)
theorem dX6_doRemove_229 : decode cX6_doRemove 229 = .ok (.aload_n 0, 1) := dk_42 (dk_at dksX6_doRemove_9 18 rfl rfl)
theorem dX6_doRemove_230 : decode cX6_doRemove 230 = .ok (.iload 7, 2) := dk_21 7 (dk_at dksX6_doRemove_9 19 rfl rfl)
theorem dX6_doRemove_232 : decode cX6_doRemove 232 = .ok (.iload_n 3, 1) := dk_29 (dk_at dksX6_doRemove_9 21 rfl rfl)
theorem dX6_doRemove_233 : decode cX6_doRemove 233 = .ok (.invokevirtual 132, 3) := dk_182 0 132 (dk_at dksX6_doRemove_10 0 rfl rfl)
theorem dX6_doRemove_236 : decode cX6_doRemove 236 = .ok (.istore 8, 2) := dk_54 8 (dk_at dksX6_doRemove_10 3 rfl rfl)
theorem dX6_doRemove_238 : decode cX6_doRemove 238 = .ok (.aload_n 0, 1) := dk_42 (dk_at dksX6_doRemove_10 5 rfl rfl)
theorem dX6_doRemove_239 : decode cX6_doRemove 239 = .ok (.iload 8, 2) := dk_21 8 (dk_at dksX6_doRemove_10 6 rfl rfl)
theorem dX6_doRemove_241 : decode cX6_doRemove 241 = .ok (.iload_n 1, 1) := dk_27 (dk_at dksX6_doRemove_10 8 rfl rfl)
theorem dX6_doRemove_242 : decode cX6_doRemove 242 = .ok (.invokevirtual 84, 3) := dk_182 0 84 (dk_at dksX6_doRemove_10 9 rfl rfl)
theorem dX6_doRemove_245 : decode cX6_doRemove 245 = .ok (.istore 9, 2) := dk_54 9 (dk_at dksX6_doRemove_10 12 rfl rfl)
theorem dX6_doRemove_247 : decode cX6_doRemove 247 = .ok (.iload 9, 2) := dk_21 9 (dk_at dksX6_doRemove_10 14 rfl rfl)
theorem dX6_doRemove_249 : decode cX6_doRemove 249 = .ok (.iconst 1, 1) := dk_4 (dk_at dksX6_doRemove_10 16 rfl rfl)
theorem dX6_doRemove_250 : decode cX6_doRemove 250 = .ok (.iadd, 1) := dk_96 (dk_at dksX6_doRemove_10 17 rfl rfl)
theorem dX6_doRemove_251 : decode cX6_doRemove 251 = .ok (.aload_n 0, 1) := dk_42 (dk_at dksX6_doRemove_10 18 rfl rfl)
theorem dX6_doRemove_252 : decode cX6_doRemove 252 = .ok (.iload 8, 2) := dk_21 8 (dk_at dksX6_doRemove_10 19 rfl rfl)
theorem dX6_doRemove_254 : decode cX6_doRemove 254 = .ok (.iconst 2, 1) := dk_5 (dk_at dksX6_doRemove_10 21 rfl rfl)
theorem dX6_doRemove_255 : decode cX6_doRemove 255 = .ok (.invokevirtual 53, 3) := dk_182 0 53 (dk_at dksX6_doRemove_11 0 rfl rfl)
theorem dX6_doRemove_258 : decode cX6_doRemove 258 = .ok (.if_icmp .ge 37, 3) := dk_162 0 37 (dk_at dksX6_doRemove_11 3 rfl rfl)
theorem dX6_doRemove_261 : decode cX6_doRemove 261 = .ok (.aload_n 0, 1) := dk_42 (dk_at dksX6_doRemove_11 6 rfl rfl)
theorem dX6_doRemove_262 : decode cX6_doRemove 262 = .ok (.iload 8, 2) := dk_21 8 (dk_at dksX6_doRemove_11 7 rfl rfl)
theorem dX6_doRemove_264 : decode cX6_doRemove 264 = .ok (.iload 9, 2) := dk_21 9 (dk_at dksX6_doRemove_11 9 rfl rfl)
theorem dX6_doRemove_266 : decode cX6_doRemove 266 = .ok (.aload_n 0, 1) := dk_42 (dk_at dksX6_doRemove_11 11 rfl rfl)
theorem dX6_doRemove_267 : decode cX6_doRemove 267 = .ok (.iload 8, 2) := dk_21 8 (dk_at dksX6_doRemove_11 12 rfl rfl)
theorem dX6_doRemove_269 : decode cX6_doRemove 269 = .ok (.iload 9, 2) := dk_21 9 (dk_at dksX6_doRemove_11 14 rfl rfl)
theorem dX6_doRemove_271 : decode cX6_doRemove 271 = .ok (.iconst 1, 1) := dk_4 (dk_at dksX6_doRemove_11 16 rfl rfl)
theorem dX6_doRemove_272 : decode cX6_doRemove 272 = .ok (.iadd, 1) := dk_96 (dk_at dksX6_doRemove_11 17 rfl rfl)
theorem dX6_doRemove_273 : decode cX6_doRemove 273 = .ok (.invokevirtual 78, 3) := dk_182 0 78 (dk_at dksX6_doRemove_11 18 rfl rfl)
theorem dX6_doRemove_276 : decode cX6_doRemove 276 = .ok (.aload_n 0, 1) := dk_42 (dk_at dksX6_doRemove_11 21 rfl rfl)
theorem dX6_doRemove_277 : decode cX6_doRemove 277 = .ok (.iload 8, 2) := dk_21 8 (dk_at dksX6_doRemove_11 22 rfl rfl)
theorem dX6_doRemove_279 : decode cX6_doRemove 279 = .ok (.iload 9, 2) := dk_21 9 (dk_at dksX6_doRemove_12 0 rfl rfl)
theorem dX6_doRemove_281 : decode cX6_doRemove 281 = .ok (.iconst 1, 1) := dk_4 (dk_at dksX6_doRemove_12 2 rfl rfl)
theorem dX6_doRemove_282 : decode cX6_doRemove 282 = .ok (.iadd, 1) := dk_96 (dk_at dksX6_doRemove_12 3 rfl rfl)
theorem dX6_doRemove_283 : decode cX6_doRemove 283 = .ok (.invokevirtual 87, 3) := dk_182 0 87 (dk_at dksX6_doRemove_12 4 rfl rfl)
theorem dX6_doRemove_286 : decode cX6_doRemove 286 = .ok (.invokevirtual 106, 3) := dk_182 0 106 (dk_at dksX6_doRemove_12 7 rfl rfl)
theorem dX6_doRemove_289 : decode cX6_doRemove 289 = .ok (.iinc 9 1, 3) := dk_132 9 1 (dk_at dksX6_doRemove_12 10 rfl rfl)
theorem dX6_doRemove_292 : decode cX6_doRemove 292 = .ok (.goto (-45), 3) := dk_167 255 211 (dk_at dksX6_doRemove_12 13 rfl rfl)
theorem dX6_doRemove_295 : decode cX6_doRemove 295 = .ok (.aload_n 0, 1) := dk_42 (dk_at dksX6_doRemove_12 16 rfl rfl)
theorem dX6_doRemove_296 : decode cX6_doRemove 296 = .ok (.iload 8, 2) := dk_21 8 (dk_at dksX6_doRemove_12 17 rfl rfl)
theorem dX6_doRemove_298 : decode cX6_doRemove 298 = .ok (.iconst 2, 1) := dk_5 (dk_at dksX6_doRemove_12 19 rfl rfl)
theorem dX6_doRemove_299 : decode cX6_doRemove 299 = .ok (.aload_n 0, 1) := dk_42 (dk_at dksX6_doRemove_12 20 rfl rfl)
theorem dX6_doRemove_300 : decode cX6_doRemove 300 = .ok (.iload 8, 2) := dk_21 8 (dk_at dksX6_doRemove_12 21 rfl rfl)
theorem dX6_doRemove_302 : decode cX6_doRemove 302 = .ok (.iconst 2, 1) := dk_5 (dk_at dksX6_doRemove_12 23 rfl rfl)
theorem dX6_doRemove_303 : decode cX6_doRemove 303 = .ok (.invokevirtual 53, 3) := dk_182 0 53 (dk_at dksX6_doRemove_13 0 rfl rfl)
theorem dX6_doRemove_306 : decode cX6_doRemove 306 = .ok (.iconst 1, 1) := dk_4 (dk_at dksX6_doRemove_13 3 rfl rfl)
theorem dX6_doRemove_307 : decode cX6_doRemove 307 = .ok (.isub, 1) := dk_100 (dk_at dksX6_doRemove_13 4 rfl rfl)
theorem dX6_doRemove_308 : decode cX6_doRemove 308 = .ok (.invokevirtual 67, 3) := dk_182 0 67 (dk_at dksX6_doRemove_13 5 rfl rfl)
theorem dX6_doRemove_311 : decode cX6_doRemove 311 = .ok (.iload_n 2, 1) := dk_28 (dk_at dksX6_doRemove_13 8 rfl rfl)
theorem dX6_doRemove_312 : decode cX6_doRemove 312 = .ok (.ireturn, 1) := dk_172 (dk_at dksX6_doRemove_13 9 rfl rfl)
/-! PageGardenModel.doRemove(I)I -/
abbrev M_X6_doRemove (z0 n0 : Nat) (s' : gS) : gM := (RX6, cX6_doRemove, 10, (some FieldType.int), "doRemove", [], 7, z0, n0, s'.2.1, s'.2.2)
abbrev W_X6_doRemove (E : gE) (z0 n0 : Nat) (r : Int32) (s' : gS) (pc : Nat) (L : List (Nat × gV)) (st : List gV) (s : gS) : Prop := gW E (M_X6_doRemove z0 n0 s') (gQm E (M_X6_doRemove z0 n0 s') (.inl (some (vI r))) s') pc L st s
noncomputable def f_X6_doRemove_170b (κ : gK) (F : Nat) (k170 : Option Nat → Int32 → Int32 → Int32 → gS → Option (Int32 × gS)) (l0 : Option Nat) (l2 : Int32) (l7 : Int32) (l8 : Int32) (s : gS) : Option (Int32 × gS) :=
  gB1 (gck s l0 9) fun _ =>
  gB2 (f_X6_of κ F l0 l7 (2 : Int32) s) fun v2 s1 =>
  if v2 ≤ (l8 + (1 : Int32)) then
    gB1 (gck s1 l0 9) fun _ =>
    gB2 (f_X6_of κ F l0 l7 (2 : Int32) s1) fun v5 s4 =>
    gB1 (gck s4 l0 9) fun _ =>
    gB2 (f_X6_lay κ F l0 l7 (2 : Int32) (v5 - (1 : Int32)) s4) fun v8 s7 =>
    some (l2, s7)
  else
    gB1 (gck s1 l0 9) fun _ =>
    gB2 (f_X6_leafAt κ F l0 l7 (l8 + (1 : Int32)) s1) fun v11 s10 =>
    gB1 (gck s10 l0 9) fun _ =>
    gB2 (f_X6_lay κ F l0 l7 ((6 : Int32) + l8) v11 s10) fun v14 s13 =>
    k170 l0 l2 l7 (l8 + (1 : Int32)) s13
noncomputable def f_X6_doRemove_170 (κ : gK) (F : Nat)  : Nat → Option Nat → Int32 → Int32 → Int32 → gS → Option (Int32 × gS)
  | 0 => fun _ _ _ _ _ => none
  | n + 1 => f_X6_doRemove_170b κ F  (f_X6_doRemove_170 κ F  n)
set_option maxHeartbeats 4000000 in
theorem w_X6_doRemove_170b {E : gE} {F z0 n0 : Nat} {r : Int32} {s' : gS} {k170 : Option Nat → Int32 → Int32 → Int32 → gS → Option (Int32 × gS)} (hk170 : ∀ (l0 : Option Nat) (l2 : Int32) (l7 : Int32) (l8 : Int32) (s : gS), k170 l0 l2 l7 l8 s = some (r, s') → W_X6_doRemove E z0 n0 r s' 170 [(0, vR l0), (2, vI l2), (7, vI l7), (8, vI l8)] [] s) : ∀ (l0 : Option Nat) (l2 : Int32) (l7 : Int32) (l8 : Int32)  (s : gS), f_X6_doRemove_170b (gk E) F k170 l0 l2 l7 l8 s = some (r, s') → W_X6_doRemove E z0 n0 r s' 170 [(0, vR l0), (2, vI l2), (7, vI l7), (8, vI l8)] [] s := by
  intro l0 l2 l7 l8 s hB
  unfold f_X6_doRemove_170b at hB
  refine gw_iload 3 rfl dX6_doRemove_170 ?_
  refine gw_iconst (v := (1 : Int32)) (by decide) dX6_doRemove_172 ?_
  refine gw_iadd dX6_doRemove_173 ?_
  refine gw_aload_n 0 rfl dX6_doRemove_174 ?_
  refine gw_iload 2 rfl dX6_doRemove_175 ?_
  refine gw_iconst (v := (2 : Int32)) (by decide) dX6_doRemove_177 ?_
  obtain ⟨u0, hu3, hB⟩ := gB1_some hB
  obtain ⟨v2, s1, hv2, hB⟩ := gB2_some hB
  refine gw_callV (y := yX6_of) (lw_V q2796 q2798 qs58 q143 q2799) hdV_X6_of gcl9 hu3 (As := [vI l7, vI (2 : Int32)]) (rest := [vI (l8 + (1 : Int32))]) (m_X6_of _ _ _ _ _ _ hv2) (Nat.le_of_ble_eq_true rfl) (Nat.le_of_ble_eq_true rfl) rfl (Nat.le_of_ble_eq_true rfl) dX6_doRemove_178 (gCont_i ?_)
  refine gw_icmp_ge (tgt := 211) dX6_doRemove_181 (by decide) (fun hcnd => ?_) (fun hcnd => ?_)
  · rw [if_pos hcnd] at hB
    refine gw_aload_n 0 rfl dX6_doRemove_211 ?_
    refine gw_iload 2 rfl dX6_doRemove_212 ?_
    refine gw_iconst (v := (2 : Int32)) (by decide) dX6_doRemove_214 ?_
    refine gw_aload_n 0 rfl dX6_doRemove_215 ?_
    refine gw_iload 2 rfl dX6_doRemove_216 ?_
    refine gw_iconst (v := (2 : Int32)) (by decide) dX6_doRemove_218 ?_
    obtain ⟨u0, hu6, hB⟩ := gB1_some hB
    obtain ⟨v5, s4, hv5, hB⟩ := gB2_some hB
    refine gw_callV (y := yX6_of) (lw_V q2796 q2798 qs58 q143 q2799) hdV_X6_of gcl9 hu6 (As := [vI l7, vI (2 : Int32)]) (rest := [vI (2 : Int32), vI l7, vR l0]) (m_X6_of _ _ _ _ _ _ hv5) (Nat.le_of_ble_eq_true rfl) (Nat.le_of_ble_eq_true rfl) rfl (Nat.le_of_ble_eq_true rfl) dX6_doRemove_219 (gCont_i ?_)
    refine gw_iconst (v := (1 : Int32)) (by decide) dX6_doRemove_222 ?_
    refine gw_isub dX6_doRemove_223 ?_
    obtain ⟨u0, hu9, hB⟩ := gB1_some hB
    obtain ⟨v8, s7, hv8, hB⟩ := gB2_some hB
    refine gw_callV (y := yX6_lay) (lw_V q2840 q2842 qs69 q143 q2843) hdV_X6_lay gcl9 hu9 (As := [vI l7, vI (2 : Int32), vI (v5 - (1 : Int32))]) (rest := []) (m_X6_lay _ _ _ _ _ _ _ hv8) (Nat.le_of_ble_eq_true rfl) (Nat.le_of_ble_eq_true rfl) rfl (Nat.le_of_ble_eq_true rfl) dX6_doRemove_224 (gCont_v ?_)
    refine gw_iload_n 1 rfl dX6_doRemove_227 ?_
    obtain ⟨rfl, rfl⟩ := Prod.mk.inj (Option.some.inj hB)
    exact gw_iret rfl rfl rfl dX6_doRemove_228
  · rw [if_neg hcnd] at hB
    refine gw_aload_n 0 rfl dX6_doRemove_184 ?_
    refine gw_iload 2 rfl dX6_doRemove_185 ?_
    refine gw_bipush (v := (6 : Int32)) (by decide) dX6_doRemove_187 ?_
    refine gw_iload 3 rfl dX6_doRemove_189 ?_
    refine gw_iadd dX6_doRemove_191 ?_
    refine gw_aload_n 0 rfl dX6_doRemove_192 ?_
    refine gw_iload 2 rfl dX6_doRemove_193 ?_
    refine gw_iload 3 rfl dX6_doRemove_195 ?_
    refine gw_iconst (v := (1 : Int32)) (by decide) dX6_doRemove_197 ?_
    refine gw_iadd dX6_doRemove_198 ?_
    obtain ⟨u0, hu12, hB⟩ := gB1_some hB
    obtain ⟨v11, s10, hv11, hB⟩ := gB2_some hB
    refine gw_callV (y := yX6_leafAt) (lw_V q2800 q2802 qs59 q143 q2803) hdV_X6_leafAt gcl9 hu12 (As := [vI l7, vI (l8 + (1 : Int32))]) (rest := [vI ((6 : Int32) + l8), vI l7, vR l0]) (m_X6_leafAt _ _ _ _ _ _ hv11) (Nat.le_of_ble_eq_true rfl) (Nat.le_of_ble_eq_true rfl) rfl (Nat.le_of_ble_eq_true rfl) dX6_doRemove_199 (gCont_i ?_)
    obtain ⟨u0, hu15, hB⟩ := gB1_some hB
    obtain ⟨v14, s13, hv14, hB⟩ := gB2_some hB
    refine gw_callV (y := yX6_lay) (lw_V q2840 q2842 qs69 q143 q2843) hdV_X6_lay gcl9 hu15 (As := [vI l7, vI ((6 : Int32) + l8), vI v11]) (rest := []) (m_X6_lay _ _ _ _ _ _ _ hv14) (Nat.le_of_ble_eq_true rfl) (Nat.le_of_ble_eq_true rfl) rfl (Nat.le_of_ble_eq_true rfl) dX6_doRemove_202 (gCont_v ?_)
    refine gw_iinc (w := (1 : Int32)) (L' := [(8, vI (l8 + (1 : Int32))), (0, vR l0), (2, vI l2), (7, vI l7)]) 3 rfl (by decide) (Nat.le_of_ble_eq_true rfl) rfl dX6_doRemove_205 ?_
    refine gw_goto (tgt := 170) dX6_doRemove_208 (by decide) ?_
    exact gw_sub [1, 2, 3, 0] rfl (hk170 _ _ _ _ _ hB)
theorem w_X6_doRemove_170 {E : gE} {F z0 n0 : Nat} {r : Int32} {s' : gS}   : ∀ (n : Nat) (l0 : Option Nat) (l2 : Int32) (l7 : Int32) (l8 : Int32)  (s : gS), f_X6_doRemove_170 (gk E) F  n l0 l2 l7 l8 s = some (r, s') → W_X6_doRemove E z0 n0 r s' 170 [(0, vR l0), (2, vI l2), (7, vI l7), (8, vI l8)] [] s := by
  intro n
  induction n with
  | zero => intro l0 l2 l7 l8 s hB; cases hB
  | succ n ih => intro l0 l2 l7 l8 s hB; exact w_X6_doRemove_170b ih l0 l2 l7 l8 s hB
noncomputable def f_X6_doRemove_247b (κ : gK) (F : Nat) (k247 : Option Nat → Int32 → Int32 → Int32 → gS → Option (Int32 × gS)) (l0 : Option Nat) (l2 : Int32) (l8 : Int32) (l9 : Int32) (s : gS) : Option (Int32 × gS) :=
  gB1 (gck s l0 9) fun _ =>
  gB2 (f_X6_of κ F l0 l8 (2 : Int32) s) fun v2 s1 =>
  if v2 ≤ (l9 + (1 : Int32)) then
    gB1 (gck s1 l0 9) fun _ =>
    gB2 (f_X6_of κ F l0 l8 (2 : Int32) s1) fun v5 s4 =>
    gB1 (gck s4 l0 9) fun _ =>
    gB2 (f_X6_lay κ F l0 l8 (2 : Int32) (v5 - (1 : Int32)) s4) fun v8 s7 =>
    some (l2, s7)
  else
    gB1 (gck s1 l0 9) fun _ =>
    gB2 (f_X6_keyAt κ F l0 l8 (l9 + (1 : Int32)) s1) fun v11 s10 =>
    gB1 (gck s10 l0 9) fun _ =>
    gB2 (f_X6_valueAt κ F l0 l8 (l9 + (1 : Int32)) s10) fun v14 s13 =>
    gB1 (gck s13 l0 9) fun _ =>
    gB2 (f_X6_setEntry κ F l0 l8 l9 v11 v14 s13) fun v17 s16 =>
    k247 l0 l2 l8 (l9 + (1 : Int32)) s16
noncomputable def f_X6_doRemove_247 (κ : gK) (F : Nat)  : Nat → Option Nat → Int32 → Int32 → Int32 → gS → Option (Int32 × gS)
  | 0 => fun _ _ _ _ _ => none
  | n + 1 => f_X6_doRemove_247b κ F  (f_X6_doRemove_247 κ F  n)
set_option maxHeartbeats 4000000 in
theorem w_X6_doRemove_247b {E : gE} {F z0 n0 : Nat} {r : Int32} {s' : gS} {k247 : Option Nat → Int32 → Int32 → Int32 → gS → Option (Int32 × gS)} (hk247 : ∀ (l0 : Option Nat) (l2 : Int32) (l8 : Int32) (l9 : Int32) (s : gS), k247 l0 l2 l8 l9 s = some (r, s') → W_X6_doRemove E z0 n0 r s' 247 [(0, vR l0), (2, vI l2), (8, vI l8), (9, vI l9)] [] s) : ∀ (l0 : Option Nat) (l2 : Int32) (l8 : Int32) (l9 : Int32)  (s : gS), f_X6_doRemove_247b (gk E) F k247 l0 l2 l8 l9 s = some (r, s') → W_X6_doRemove E z0 n0 r s' 247 [(0, vR l0), (2, vI l2), (8, vI l8), (9, vI l9)] [] s := by
  intro l0 l2 l8 l9 s hB
  unfold f_X6_doRemove_247b at hB
  refine gw_iload 3 rfl dX6_doRemove_247 ?_
  refine gw_iconst (v := (1 : Int32)) (by decide) dX6_doRemove_249 ?_
  refine gw_iadd dX6_doRemove_250 ?_
  refine gw_aload_n 0 rfl dX6_doRemove_251 ?_
  refine gw_iload 2 rfl dX6_doRemove_252 ?_
  refine gw_iconst (v := (2 : Int32)) (by decide) dX6_doRemove_254 ?_
  obtain ⟨u0, hu3, hB⟩ := gB1_some hB
  obtain ⟨v2, s1, hv2, hB⟩ := gB2_some hB
  refine gw_callV (y := yX6_of) (lw_V q2796 q2798 qs58 q143 q2799) hdV_X6_of gcl9 hu3 (As := [vI l8, vI (2 : Int32)]) (rest := [vI (l9 + (1 : Int32))]) (m_X6_of _ _ _ _ _ _ hv2) (Nat.le_of_ble_eq_true rfl) (Nat.le_of_ble_eq_true rfl) rfl (Nat.le_of_ble_eq_true rfl) dX6_doRemove_255 (gCont_i ?_)
  refine gw_icmp_ge (tgt := 295) dX6_doRemove_258 (by decide) (fun hcnd => ?_) (fun hcnd => ?_)
  · rw [if_pos hcnd] at hB
    refine gw_aload_n 0 rfl dX6_doRemove_295 ?_
    refine gw_iload 2 rfl dX6_doRemove_296 ?_
    refine gw_iconst (v := (2 : Int32)) (by decide) dX6_doRemove_298 ?_
    refine gw_aload_n 0 rfl dX6_doRemove_299 ?_
    refine gw_iload 2 rfl dX6_doRemove_300 ?_
    refine gw_iconst (v := (2 : Int32)) (by decide) dX6_doRemove_302 ?_
    obtain ⟨u0, hu6, hB⟩ := gB1_some hB
    obtain ⟨v5, s4, hv5, hB⟩ := gB2_some hB
    refine gw_callV (y := yX6_of) (lw_V q2796 q2798 qs58 q143 q2799) hdV_X6_of gcl9 hu6 (As := [vI l8, vI (2 : Int32)]) (rest := [vI (2 : Int32), vI l8, vR l0]) (m_X6_of _ _ _ _ _ _ hv5) (Nat.le_of_ble_eq_true rfl) (Nat.le_of_ble_eq_true rfl) rfl (Nat.le_of_ble_eq_true rfl) dX6_doRemove_303 (gCont_i ?_)
    refine gw_iconst (v := (1 : Int32)) (by decide) dX6_doRemove_306 ?_
    refine gw_isub dX6_doRemove_307 ?_
    obtain ⟨u0, hu9, hB⟩ := gB1_some hB
    obtain ⟨v8, s7, hv8, hB⟩ := gB2_some hB
    refine gw_callV (y := yX6_lay) (lw_V q2840 q2842 qs69 q143 q2843) hdV_X6_lay gcl9 hu9 (As := [vI l8, vI (2 : Int32), vI (v5 - (1 : Int32))]) (rest := []) (m_X6_lay _ _ _ _ _ _ _ hv8) (Nat.le_of_ble_eq_true rfl) (Nat.le_of_ble_eq_true rfl) rfl (Nat.le_of_ble_eq_true rfl) dX6_doRemove_308 (gCont_v ?_)
    refine gw_iload_n 1 rfl dX6_doRemove_311 ?_
    obtain ⟨rfl, rfl⟩ := Prod.mk.inj (Option.some.inj hB)
    exact gw_iret rfl rfl rfl dX6_doRemove_312
  · rw [if_neg hcnd] at hB
    refine gw_aload_n 0 rfl dX6_doRemove_261 ?_
    refine gw_iload 2 rfl dX6_doRemove_262 ?_
    refine gw_iload 3 rfl dX6_doRemove_264 ?_
    refine gw_aload_n 0 rfl dX6_doRemove_266 ?_
    refine gw_iload 2 rfl dX6_doRemove_267 ?_
    refine gw_iload 3 rfl dX6_doRemove_269 ?_
    refine gw_iconst (v := (1 : Int32)) (by decide) dX6_doRemove_271 ?_
    refine gw_iadd dX6_doRemove_272 ?_
    obtain ⟨u0, hu12, hB⟩ := gB1_some hB
    obtain ⟨v11, s10, hv11, hB⟩ := gB2_some hB
    refine gw_callV (y := yX6_keyAt) (lw_V q2804 q2806 qs60 q143 q2807) hdV_X6_keyAt gcl9 hu12 (As := [vI l8, vI (l9 + (1 : Int32))]) (rest := [vI l9, vI l8, vR l0]) (m_X6_keyAt _ _ _ _ _ _ hv11) (Nat.le_of_ble_eq_true rfl) (Nat.le_of_ble_eq_true rfl) rfl (Nat.le_of_ble_eq_true rfl) dX6_doRemove_273 (gCont_i ?_)
    refine gw_aload_n 0 rfl dX6_doRemove_276 ?_
    refine gw_iload 2 rfl dX6_doRemove_277 ?_
    refine gw_iload 3 rfl dX6_doRemove_279 ?_
    refine gw_iconst (v := (1 : Int32)) (by decide) dX6_doRemove_281 ?_
    refine gw_iadd dX6_doRemove_282 ?_
    obtain ⟨u0, hu15, hB⟩ := gB1_some hB
    obtain ⟨v14, s13, hv14, hB⟩ := gB2_some hB
    refine gw_callV (y := yX6_valueAt) (lw_V q2860 q2862 qs74 q143 q2863) hdV_X6_valueAt gcl9 hu15 (As := [vI l8, vI (l9 + (1 : Int32))]) (rest := [vI v11, vI l9, vI l8, vR l0]) (m_X6_valueAt _ _ _ _ _ _ hv14) (Nat.le_of_ble_eq_true rfl) (Nat.le_of_ble_eq_true rfl) rfl (Nat.le_of_ble_eq_true rfl) dX6_doRemove_283 (gCont_i ?_)
    obtain ⟨u0, hu18, hB⟩ := gB1_some hB
    obtain ⟨v17, s16, hv17, hB⟩ := gB2_some hB
    refine gw_callV (y := yX6_setEntry) (lw_V q2864 q2866 qs75 q143 q2867) hdV_X6_setEntry gcl9 hu18 (As := [vI l8, vI l9, vI v11, vI v14]) (rest := []) (m_X6_setEntry _ _ _ _ _ _ _ _ hv17) (Nat.le_of_ble_eq_true rfl) (Nat.le_of_ble_eq_true rfl) rfl (Nat.le_of_ble_eq_true rfl) dX6_doRemove_286 (gCont_v ?_)
    refine gw_iinc (w := (1 : Int32)) (L' := [(9, vI (l9 + (1 : Int32))), (0, vR l0), (2, vI l2), (8, vI l8)]) 3 rfl (by decide) (Nat.le_of_ble_eq_true rfl) rfl dX6_doRemove_289 ?_
    refine gw_goto (tgt := 247) dX6_doRemove_292 (by decide) ?_
    exact gw_sub [1, 2, 3, 0] rfl (hk247 _ _ _ _ _ hB)
theorem w_X6_doRemove_247 {E : gE} {F z0 n0 : Nat} {r : Int32} {s' : gS}   : ∀ (n : Nat) (l0 : Option Nat) (l2 : Int32) (l8 : Int32) (l9 : Int32)  (s : gS), f_X6_doRemove_247 (gk E) F  n l0 l2 l8 l9 s = some (r, s') → W_X6_doRemove E z0 n0 r s' 247 [(0, vR l0), (2, vI l2), (8, vI l8), (9, vI l9)] [] s := by
  intro n
  induction n with
  | zero => intro l0 l2 l8 l9 s hB; cases hB
  | succ n ih => intro l0 l2 l8 l9 s hB; exact w_X6_doRemove_247b ih l0 l2 l8 l9 s hB
noncomputable def f_X6_doRemove_132 (κ : gK) (F : Nat)  (l0 : Option Nat) (l1 : Int32) (l2 : Int32) (l3 : Int32) (l4 : Int32) (l5 : Int32) (t0 : Int32) (t1 : Int32) (s : gS) : Option (Int32 × gS) :=
  gB1 (gck s l0 9) fun _ =>
  gB2 (f_X6_manyToDig κ F l0  s) fun v2 s1 =>
  if (t0 + t1) ≤ v2 then
    gB1 (gck s1 l0 9) fun _ =>
    gB2 (f_X6_directory κ F l0  s1) fun v5 s4 =>
    if l5 = 0 then
      gB1 (gck s4 l0 9) fun _ =>
      gB2 (f_X6_ownLeaf κ F l0 v5 l3 s4) fun v8 s7 =>
      gB1 (gck s7 l0 9) fun _ =>
      gB2 (f_X6_placeIn κ F l0 v8 l1 s7) fun v11 s10 =>
      f_X6_doRemove_247 κ F  F l0 l2 v8 v11 s10
    else
      gB1 (gck s4 l0 9) fun _ =>
      gB2 (f_X6_leaves κ F l0 l4 s4) fun v14 s13 =>
      f_X6_doRemove_170 κ F  F l0 l2 v5 l3 s13
  else
    gB1 (gck s1 l0 9) fun _ =>
    gB2 (f_X6_refuse κ F l0 (2 : Int32) s1) fun v17 s16 =>
    some (v17, s16)
set_option maxHeartbeats 4000000 in
theorem w_X6_doRemove_132 {E : gE} {F z0 n0 : Nat} {r : Int32} {s' : gS}   : ∀ (l0 : Option Nat) (l1 : Int32) (l2 : Int32) (l3 : Int32) (l4 : Int32) (l5 : Int32) (t0 : Int32) (t1 : Int32) (s : gS), f_X6_doRemove_132 (gk E) F  l0 l1 l2 l3 l4 l5 t0 t1 s = some (r, s') → W_X6_doRemove E z0 n0 r s' 132 [(0, vR l0), (1, vI l1), (2, vI l2), (3, vI l3), (4, vI l4), (5, vI l5)] [vI t1, vI t0] s := by
  intro l0 l1 l2 l3 l4 l5 t0 t1 s hB
  unfold f_X6_doRemove_132 at hB
  refine gw_iadd dX6_doRemove_132 ?_
  refine gw_istore (L' := [(6, vI (t0 + t1)), (0, vR l0), (1, vI l1), (2, vI l2), (3, vI l3), (4, vI l4), (5, vI l5)]) (Nat.le_of_ble_eq_true rfl) rfl dX6_doRemove_133 ?_
  refine gw_iload 0 rfl dX6_doRemove_135 ?_
  refine gw_aload_n 1 rfl dX6_doRemove_137 ?_
  obtain ⟨u0, hu3, hB⟩ := gB1_some hB
  obtain ⟨v2, s1, hv2, hB⟩ := gB2_some hB
  refine gw_callV (y := yX6_manyToDig) (lw_V q2812 q2814 qs62 q143 q2815) hdV_X6_manyToDig gcl9 hu3 (As := []) (rest := [vI (t0 + t1)]) (m_X6_manyToDig _ _ _ _ hv2) (Nat.le_of_ble_eq_true rfl) (Nat.le_of_ble_eq_true rfl) rfl (Nat.le_of_ble_eq_true rfl) dX6_doRemove_138 (gCont_i ?_)
  refine gw_icmp_le (tgt := 150) dX6_doRemove_141 (by decide) (fun hcnd => ?_) (fun hcnd => ?_)
  · rw [if_pos hcnd] at hB
    refine gw_aload_n 1 rfl dX6_doRemove_150 ?_
    obtain ⟨u0, hu6, hB⟩ := gB1_some hB
    obtain ⟨v5, s4, hv5, hB⟩ := gB2_some hB
    refine gw_callV (y := yX6_directory) (lw_V q2828 q2830 qs66 q143 q2831) hdV_X6_directory gcl9 hu6 (As := []) (rest := []) (m_X6_directory _ _ _ _ hv5) (Nat.le_of_ble_eq_true rfl) (Nat.le_of_ble_eq_true rfl) rfl (Nat.le_of_ble_eq_true rfl) dX6_doRemove_151 (gCont_i ?_)
    refine gw_istore (L' := [(7, vI v5), (6, vI (t0 + t1)), (0, vR l0), (1, vI l1), (2, vI l2), (3, vI l3), (4, vI l4), (5, vI l5)]) (Nat.le_of_ble_eq_true rfl) rfl dX6_doRemove_154 ?_
    refine gw_iload 7 rfl dX6_doRemove_156 ?_
    refine gw_if_eq (tgt := 229) dX6_doRemove_158 (by decide) (fun hcnd => ?_) (fun hcnd => ?_)
    · rw [if_pos hcnd] at hB
      refine gw_aload_n 2 rfl dX6_doRemove_229 ?_
      refine gw_iload 0 rfl dX6_doRemove_230 ?_
      refine gw_iload_n 5 rfl dX6_doRemove_232 ?_
      obtain ⟨u0, hu9, hB⟩ := gB1_some hB
      obtain ⟨v8, s7, hv8, hB⟩ := gB2_some hB
      refine gw_callV (y := yX6_ownLeaf) (lw_V q2872 q2874 qs77 q143 q2875) hdV_X6_ownLeaf gcl9 hu9 (As := [vI v5, vI l3]) (rest := []) (m_X6_ownLeaf _ _ _ _ _ _ hv8) (Nat.le_of_ble_eq_true rfl) (Nat.le_of_ble_eq_true rfl) rfl (Nat.le_of_ble_eq_true rfl) dX6_doRemove_233 (gCont_i ?_)
      refine gw_istore (L' := [(8, vI v8), (7, vI v5), (6, vI (t0 + t1)), (0, vR l0), (1, vI l1), (2, vI l2), (3, vI l3), (4, vI l4), (5, vI l5)]) (Nat.le_of_ble_eq_true rfl) rfl dX6_doRemove_236 ?_
      refine gw_aload_n 3 rfl dX6_doRemove_238 ?_
      refine gw_iload 0 rfl dX6_doRemove_239 ?_
      refine gw_iload_n 4 rfl dX6_doRemove_241 ?_
      obtain ⟨u0, hu12, hB⟩ := gB1_some hB
      obtain ⟨v11, s10, hv11, hB⟩ := gB2_some hB
      refine gw_callV (y := yX6_placeIn) (lw_V q2808 q2810 qs61 q143 q2811) hdV_X6_placeIn gcl9 hu12 (As := [vI v8, vI l1]) (rest := []) (m_X6_placeIn _ _ _ _ _ _ hv11) (Nat.le_of_ble_eq_true rfl) (Nat.le_of_ble_eq_true rfl) rfl (Nat.le_of_ble_eq_true rfl) dX6_doRemove_242 (gCont_i ?_)
      refine gw_istore (L' := [(9, vI v11), (8, vI v8), (7, vI v5), (6, vI (t0 + t1)), (0, vR l0), (1, vI l1), (2, vI l2), (3, vI l3), (4, vI l4), (5, vI l5)]) (Nat.le_of_ble_eq_true rfl) rfl dX6_doRemove_245 ?_
      exact gw_sub [4, 6, 1, 0] rfl (w_X6_doRemove_247  F _ _ _ _ _ hB)
    · rw [if_neg hcnd] at hB
      refine gw_aload_n 2 rfl dX6_doRemove_161 ?_
      refine gw_iload 6 rfl dX6_doRemove_162 ?_
      obtain ⟨u0, hu15, hB⟩ := gB1_some hB
      obtain ⟨v14, s13, hv14, hB⟩ := gB2_some hB
      refine gw_callV (y := yX6_leaves) (lw_V q2848 q2850 qs71 q143 q2851) hdV_X6_leaves gcl9 hu15 (As := [vI l4]) (rest := []) (m_X6_leaves _ _ _ _ _ hv14) (Nat.le_of_ble_eq_true rfl) (Nat.le_of_ble_eq_true rfl) rfl (Nat.le_of_ble_eq_true rfl) dX6_doRemove_164 (gCont_v ?_)
      refine gw_iload_n 5 rfl dX6_doRemove_167 ?_
      refine gw_istore (L' := [(8, vI l3), (7, vI v5), (6, vI (t0 + t1)), (0, vR l0), (1, vI l1), (2, vI l2), (3, vI l3), (4, vI l4), (5, vI l5)]) (Nat.le_of_ble_eq_true rfl) rfl dX6_doRemove_168 ?_
      exact gw_sub [3, 5, 1, 0] rfl (w_X6_doRemove_170  F _ _ _ _ _ hB)
  · rw [if_neg hcnd] at hB
    refine gw_aload_n 1 rfl dX6_doRemove_144 ?_
    refine gw_iconst (v := (2 : Int32)) (by decide) dX6_doRemove_145 ?_
    obtain ⟨u0, hu18, hB⟩ := gB1_some hB
    obtain ⟨v17, s16, hv17, hB⟩ := gB2_some hB
    refine gw_callV (y := yX6_refuse) (lw_V q2753 q2755 qs49 q143 q2756) hdV_X6_refuse gcl9 hu18 (As := [vI (2 : Int32)]) (rest := []) (m_X6_refuse _ _ _ _ _ hv17) (Nat.le_of_ble_eq_true rfl) (Nat.le_of_ble_eq_true rfl) rfl (Nat.le_of_ble_eq_true rfl) dX6_doRemove_146 (gCont_i ?_)
    obtain ⟨rfl, rfl⟩ := Prod.mk.inj (Option.some.inj hB)
    exact gw_iret rfl rfl rfl dX6_doRemove_149
noncomputable def f_X6_doRemove_127 (κ : gK) (F : Nat)  (l0 : Option Nat) (l1 : Int32) (l2 : Int32) (l3 : Int32) (l4 : Int32) (l5 : Int32) (t0 : Int32) (s : gS) : Option (Int32 × gS) :=
  f_X6_doRemove_132 κ F  l0 l1 l2 l3 l4 l5 t0 (0 : Int32) s
set_option maxHeartbeats 4000000 in
theorem w_X6_doRemove_127 {E : gE} {F z0 n0 : Nat} {r : Int32} {s' : gS}   : ∀ (l0 : Option Nat) (l1 : Int32) (l2 : Int32) (l3 : Int32) (l4 : Int32) (l5 : Int32) (t0 : Int32) (s : gS), f_X6_doRemove_127 (gk E) F  l0 l1 l2 l3 l4 l5 t0 s = some (r, s') → W_X6_doRemove E z0 n0 r s' 127 [(0, vR l0), (1, vI l1), (2, vI l2), (3, vI l3), (4, vI l4), (5, vI l5)] [vI t0] s := by
  intro l0 l1 l2 l3 l4 l5 t0 s hB
  unfold f_X6_doRemove_127 at hB
  refine gw_iconst (v := (0 : Int32)) (by decide) dX6_doRemove_127 ?_
  refine gw_goto (tgt := 132) dX6_doRemove_128 (by decide) ?_
  exact gw_sub [0, 1, 2, 3, 4, 5] rfl (w_X6_doRemove_132  _ _ _ _ _ _ _ _ _ hB)
noncomputable def f_X6_doRemove_111 (κ : gK) (F : Nat)  (l0 : Option Nat) (l1 : Int32) (l2 : Int32) (l3 : Int32) (l4 : Int32) (l5 : Int32) (t0 : Int32) (s : gS) : Option (Int32 × gS) :=
  if l5 = 0 then
    gB1 (gck s l0 9) fun _ =>
    gB2 (f_X6_of κ F l0 l4 (4 : Int32) s) fun v2 s1 =>
    if v2 = (1 : Int32) then
      f_X6_doRemove_127 κ F  l0 l1 l2 l3 l4 l5 t0 s1
    else
      f_X6_doRemove_132 κ F  l0 l1 l2 l3 l4 l5 t0 (1 : Int32) s1
  else
    f_X6_doRemove_127 κ F  l0 l1 l2 l3 l4 l5 t0 s
set_option maxHeartbeats 4000000 in
theorem w_X6_doRemove_111 {E : gE} {F z0 n0 : Nat} {r : Int32} {s' : gS}   : ∀ (l0 : Option Nat) (l1 : Int32) (l2 : Int32) (l3 : Int32) (l4 : Int32) (l5 : Int32) (t0 : Int32) (s : gS), f_X6_doRemove_111 (gk E) F  l0 l1 l2 l3 l4 l5 t0 s = some (r, s') → W_X6_doRemove E z0 n0 r s' 111 [(0, vR l0), (1, vI l1), (2, vI l2), (3, vI l3), (4, vI l4), (5, vI l5)] [vI t0] s := by
  intro l0 l1 l2 l3 l4 l5 t0 s hB
  unfold f_X6_doRemove_111 at hB
  refine gw_iload 5 rfl dX6_doRemove_111 ?_
  refine gw_if_ne (tgt := 127) dX6_doRemove_113 (by decide) (fun hcnd => ?_) (fun hcnd => ?_)
  · rw [if_neg hcnd] at hB
    exact gw_sub [0, 1, 2, 3, 4, 5] rfl (w_X6_doRemove_127  _ _ _ _ _ _ _ _ hB)
  · rw [if_pos hcnd] at hB
    refine gw_aload_n 0 rfl dX6_doRemove_116 ?_
    refine gw_iload 4 rfl dX6_doRemove_117 ?_
    refine gw_iconst (v := (4 : Int32)) (by decide) dX6_doRemove_119 ?_
    obtain ⟨u0, hu3, hB⟩ := gB1_some hB
    obtain ⟨v2, s1, hv2, hB⟩ := gB2_some hB
    refine gw_callV (y := yX6_of) (lw_V q2796 q2798 qs58 q143 q2799) hdV_X6_of gcl9 hu3 (As := [vI l4, vI (4 : Int32)]) (rest := [vI t0]) (m_X6_of _ _ _ _ _ _ hv2) (Nat.le_of_ble_eq_true rfl) (Nat.le_of_ble_eq_true rfl) rfl (Nat.le_of_ble_eq_true rfl) dX6_doRemove_120 (gCont_i ?_)
    refine gw_iconst (v := (1 : Int32)) (by decide) dX6_doRemove_123 ?_
    refine gw_icmp_ne (tgt := 131) dX6_doRemove_124 (by decide) (fun hcnd => ?_) (fun hcnd => ?_)
    · rw [if_neg hcnd] at hB
      refine gw_iconst (v := (1 : Int32)) (by decide) dX6_doRemove_131 ?_
      exact gw_sub [0, 1, 2, 3, 4, 5] rfl (w_X6_doRemove_132  _ _ _ _ _ _ _ _ _ hB)
    · rw [if_pos hcnd] at hB
      exact gw_sub [0, 1, 2, 3, 4, 5] rfl (w_X6_doRemove_127  _ _ _ _ _ _ _ _ hB)
noncomputable def f_X6_doRemove_93 (κ : gK) (F : Nat)  (l0 : Option Nat) (l1 : Int32) (l2 : Int32) (l3 : Int32) (l4 : Int32) (t0 : Int32) (s : gS) : Option (Int32 × gS) :=
  gB1 (gfR s l0 9 0) fun v1 =>
  gB1 (gaI s v1 0 (467 : Int32)) fun v2 =>
  if 0 ≤ v2 then
    f_X6_doRemove_111 κ F  l0 l1 l2 l3 l4 t0 (0 : Int32) s
  else
    f_X6_doRemove_111 κ F  l0 l1 l2 l3 l4 t0 (1 : Int32) s
set_option maxHeartbeats 4000000 in
theorem w_X6_doRemove_93 {E : gE} {F z0 n0 : Nat} {r : Int32} {s' : gS}   : ∀ (l0 : Option Nat) (l1 : Int32) (l2 : Int32) (l3 : Int32) (l4 : Int32) (t0 : Int32) (s : gS), f_X6_doRemove_93 (gk E) F  l0 l1 l2 l3 l4 t0 s = some (r, s') → W_X6_doRemove E z0 n0 r s' 93 [(0, vR l0), (1, vI l1), (2, vI l2), (3, vI l3), (4, vI l4)] [vI t0] s := by
  intro l0 l1 l2 l3 l4 t0 s hB
  unfold f_X6_doRemove_93 at hB
  refine gw_istore (L' := [(5, vI t0), (0, vR l0), (1, vI l1), (2, vI l2), (3, vI l3), (4, vI l4)]) (Nat.le_of_ble_eq_true rfl) rfl dX6_doRemove_93 ?_
  refine gw_aload_n 1 rfl dX6_doRemove_95 ?_
  obtain ⟨v1, hv1, hB⟩ := gB1_some hB
  refine gw_getf (C := RX6) (T := TX6) (N := 13) (k := 0) gcl9 (by decide) in_X6 q2694 (gfR_spec hv1) dX6_doRemove_96 ?_
  refine gw_sipush (v := (467 : Int32)) (by decide) dX6_doRemove_99 ?_
  obtain ⟨v2, hv2, hB⟩ := gB1_some hB
  refine gw_iaload hv2 dX6_doRemove_102 ?_
  refine gw_if_ge (tgt := 110) dX6_doRemove_103 (by decide) (fun hcnd => ?_) (fun hcnd => ?_)
  · rw [if_pos hcnd] at hB
    refine gw_iconst (v := (0 : Int32)) (by decide) dX6_doRemove_110 ?_
    exact gw_sub [1, 2, 3, 4, 5, 0] rfl (w_X6_doRemove_111  _ _ _ _ _ _ _ _ hB)
  · rw [if_neg hcnd] at hB
    refine gw_iconst (v := (1 : Int32)) (by decide) dX6_doRemove_106 ?_
    refine gw_goto (tgt := 111) dX6_doRemove_107 (by decide) ?_
    exact gw_sub [1, 2, 3, 4, 5, 0] rfl (w_X6_doRemove_111  _ _ _ _ _ _ _ _ hB)
noncomputable def f_X6_doRemove_42 (κ : gK) (F : Nat)  (l0 : Option Nat) (l1 : Int32) (t0 : Int32) (s : gS) : Option (Int32 × gS) :=
  if t0 = (-1000 : Int32) then
    gB1 (gck s l0 9) fun _ =>
    gB2 (f_X6_refuse κ F l0 (2 : Int32) s) fun v17 s16 =>
    some (v17, s16)
  else
    gB1 (gck s l0 9) fun _ =>
    gB2 (f_X6_drafts κ F l0  s) fun v2 s1 =>
    gB1 (gck s1 l0 9) fun _ =>
    gB2 (f_X6_placeFor κ F l0 v2 l1 s1) fun v5 s4 =>
    gB1 (gck s4 l0 9) fun _ =>
    gB2 (f_X6_drafts κ F l0  s4) fun v8 s7 =>
    gB1 (gck s7 l0 9) fun _ =>
    gB2 (f_X6_leafAt κ F l0 v8 v5 s7) fun v11 s10 =>
    gB1 (gck s10 l0 9) fun _ =>
    gB2 (f_X6_of κ F l0 v11 (2 : Int32) s10) fun v14 s13 =>
    if v14 = (1 : Int32) then
      f_X6_doRemove_93 κ F  l0 l1 t0 v5 v11 (1 : Int32) s13
    else
      f_X6_doRemove_93 κ F  l0 l1 t0 v5 v11 (0 : Int32) s13
set_option maxHeartbeats 4000000 in
theorem w_X6_doRemove_42 {E : gE} {F z0 n0 : Nat} {r : Int32} {s' : gS}   : ∀ (l0 : Option Nat) (l1 : Int32) (t0 : Int32) (s : gS), f_X6_doRemove_42 (gk E) F  l0 l1 t0 s = some (r, s') → W_X6_doRemove E z0 n0 r s' 42 [(0, vR l0), (1, vI l1)] [vI t0] s := by
  intro l0 l1 t0 s hB
  unfold f_X6_doRemove_42 at hB
  refine gw_istore_n (L' := [(2, vI t0), (0, vR l0), (1, vI l1)]) (Nat.le_of_ble_eq_true rfl) rfl dX6_doRemove_42 ?_
  refine gw_iload_n 0 rfl dX6_doRemove_43 ?_
  refine gw_sipush (v := (-1000 : Int32)) (by decide) dX6_doRemove_44 ?_
  refine gw_icmp_ne (tgt := 56) dX6_doRemove_47 (by decide) (fun hcnd => ?_) (fun hcnd => ?_)
  · rw [if_neg hcnd] at hB
    refine gw_aload_n 1 rfl dX6_doRemove_56 ?_
    refine gw_aload_n 1 rfl dX6_doRemove_57 ?_
    obtain ⟨u0, hu3, hB⟩ := gB1_some hB
    obtain ⟨v2, s1, hv2, hB⟩ := gB2_some hB
    refine gw_callV (y := yX6_drafts) (lw_V q2784 q2786 qs55 q143 q2787) hdV_X6_drafts gcl9 hu3 (As := []) (rest := [vR l0]) (m_X6_drafts _ _ _ _ hv2) (Nat.le_of_ble_eq_true rfl) (Nat.le_of_ble_eq_true rfl) rfl (Nat.le_of_ble_eq_true rfl) dX6_doRemove_58 (gCont_i ?_)
    refine gw_iload_n 2 rfl dX6_doRemove_61 ?_
    obtain ⟨u0, hu6, hB⟩ := gB1_some hB
    obtain ⟨v5, s4, hv5, hB⟩ := gB2_some hB
    refine gw_callV (y := yX6_placeFor) (lw_V q2792 q2794 qs57 q143 q2795) hdV_X6_placeFor gcl9 hu6 (As := [vI v2, vI l1]) (rest := []) (m_X6_placeFor _ _ _ _ _ _ hv5) (Nat.le_of_ble_eq_true rfl) (Nat.le_of_ble_eq_true rfl) rfl (Nat.le_of_ble_eq_true rfl) dX6_doRemove_62 (gCont_i ?_)
    refine gw_istore_n (L' := [(3, vI v5), (2, vI t0), (0, vR l0), (1, vI l1)]) (Nat.le_of_ble_eq_true rfl) rfl dX6_doRemove_65 ?_
    refine gw_aload_n 2 rfl dX6_doRemove_66 ?_
    refine gw_aload_n 2 rfl dX6_doRemove_67 ?_
    obtain ⟨u0, hu9, hB⟩ := gB1_some hB
    obtain ⟨v8, s7, hv8, hB⟩ := gB2_some hB
    refine gw_callV (y := yX6_drafts) (lw_V q2784 q2786 qs55 q143 q2787) hdV_X6_drafts gcl9 hu9 (As := []) (rest := [vR l0]) (m_X6_drafts _ _ _ _ hv8) (Nat.le_of_ble_eq_true rfl) (Nat.le_of_ble_eq_true rfl) rfl (Nat.le_of_ble_eq_true rfl) dX6_doRemove_68 (gCont_i ?_)
    refine gw_iload_n 0 rfl dX6_doRemove_71 ?_
    obtain ⟨u0, hu12, hB⟩ := gB1_some hB
    obtain ⟨v11, s10, hv11, hB⟩ := gB2_some hB
    refine gw_callV (y := yX6_leafAt) (lw_V q2800 q2802 qs59 q143 q2803) hdV_X6_leafAt gcl9 hu12 (As := [vI v8, vI v5]) (rest := []) (m_X6_leafAt _ _ _ _ _ _ hv11) (Nat.le_of_ble_eq_true rfl) (Nat.le_of_ble_eq_true rfl) rfl (Nat.le_of_ble_eq_true rfl) dX6_doRemove_72 (gCont_i ?_)
    refine gw_istore (L' := [(4, vI v11), (3, vI v5), (2, vI t0), (0, vR l0), (1, vI l1)]) (Nat.le_of_ble_eq_true rfl) rfl dX6_doRemove_75 ?_
    refine gw_aload_n 3 rfl dX6_doRemove_77 ?_
    refine gw_iload 0 rfl dX6_doRemove_78 ?_
    refine gw_iconst (v := (2 : Int32)) (by decide) dX6_doRemove_80 ?_
    obtain ⟨u0, hu15, hB⟩ := gB1_some hB
    obtain ⟨v14, s13, hv14, hB⟩ := gB2_some hB
    refine gw_callV (y := yX6_of) (lw_V q2796 q2798 qs58 q143 q2799) hdV_X6_of gcl9 hu15 (As := [vI v11, vI (2 : Int32)]) (rest := []) (m_X6_of _ _ _ _ _ _ hv14) (Nat.le_of_ble_eq_true rfl) (Nat.le_of_ble_eq_true rfl) rfl (Nat.le_of_ble_eq_true rfl) dX6_doRemove_81 (gCont_i ?_)
    refine gw_iconst (v := (1 : Int32)) (by decide) dX6_doRemove_84 ?_
    refine gw_icmp_ne (tgt := 92) dX6_doRemove_85 (by decide) (fun hcnd => ?_) (fun hcnd => ?_)
    · rw [if_neg hcnd] at hB
      refine gw_iconst (v := (0 : Int32)) (by decide) dX6_doRemove_92 ?_
      exact gw_sub [3, 4, 2, 1, 0] rfl (w_X6_doRemove_93  _ _ _ _ _ _ _ hB)
    · rw [if_pos hcnd] at hB
      refine gw_iconst (v := (1 : Int32)) (by decide) dX6_doRemove_88 ?_
      refine gw_goto (tgt := 93) dX6_doRemove_89 (by decide) ?_
      exact gw_sub [3, 4, 2, 1, 0] rfl (w_X6_doRemove_93  _ _ _ _ _ _ _ hB)
  · rw [if_pos hcnd] at hB
    refine gw_aload_n 1 rfl dX6_doRemove_50 ?_
    refine gw_iconst (v := (2 : Int32)) (by decide) dX6_doRemove_51 ?_
    obtain ⟨u0, hu18, hB⟩ := gB1_some hB
    obtain ⟨v17, s16, hv17, hB⟩ := gB2_some hB
    refine gw_callV (y := yX6_refuse) (lw_V q2753 q2755 qs49 q143 q2756) hdV_X6_refuse gcl9 hu18 (As := [vI (2 : Int32)]) (rest := []) (m_X6_refuse _ _ _ _ _ hv17) (Nat.le_of_ble_eq_true rfl) (Nat.le_of_ble_eq_true rfl) rfl (Nat.le_of_ble_eq_true rfl) dX6_doRemove_52 (gCont_i ?_)
    obtain ⟨rfl, rfl⟩ := Prod.mk.inj (Option.some.inj hB)
    exact gw_iret rfl rfl rfl dX6_doRemove_55
noncomputable def f_X6_doRemove_0 (κ : gK) (F : Nat)  (l0 : Option Nat) (l1 : Int32) (s : gS) : Option (Int32 × gS) :=
  gB2 (f_X6_in κ F l1 (0 : Int32) (99 : Int32) s) fun v2 s1 =>
  if v2 = 0 then
    gB1 (gck s1 l0 9) fun _ =>
    gB2 (f_X6_refuse κ F l0 (1 : Int32) s1) fun v12 s11 =>
    some (v12, s11)
  else
    gB1 (gfR s1 l0 9 0) fun v3 =>
    gB1 (gaI s1 v3 0 (466 : Int32)) fun v4 =>
    if v4 = 0 then
      f_X6_doRemove_42 κ F  l0 l1 (-1000 : Int32) s1
    else
      gB1 (gck s1 l0 9) fun _ =>
      gB2 (f_X6_drafts κ F l0  s1) fun v6 s5 =>
      gB1 (gck s5 l0 9) fun _ =>
      gB2 (f_X6_valueBy κ F l0 v6 l1 s5) fun v9 s8 =>
      f_X6_doRemove_42 κ F  l0 l1 v9 s8
set_option maxHeartbeats 4000000 in
theorem w_X6_doRemove_0 {E : gE} {F z0 n0 : Nat} {r : Int32} {s' : gS}   : ∀ (l0 : Option Nat) (l1 : Int32)  (s : gS), f_X6_doRemove_0 (gk E) F  l0 l1 s = some (r, s') → W_X6_doRemove E z0 n0 r s' 0 [(0, vR l0), (1, vI l1)] [] s := by
  intro l0 l1 s hB
  unfold f_X6_doRemove_0 at hB
  refine gw_iload_n 1 rfl dX6_doRemove_0 ?_
  refine gw_iconst (v := (0 : Int32)) (by decide) dX6_doRemove_1 ?_
  refine gw_bipush (v := (99 : Int32)) (by decide) dX6_doRemove_2 ?_
  obtain ⟨v2, s1, hv2, hB⟩ := gB2_some hB
  refine gw_callS (y := yX6_in) (lw_S q2777 q2778 q143 q2779) hdS_X6_in (As := [vI l1, vI (0 : Int32), vI (99 : Int32)]) (rest := []) (m_X6_in _ _ _ _ _ _ hv2) (Nat.le_of_ble_eq_true rfl) (Nat.le_of_ble_eq_true rfl) rfl (Nat.le_of_ble_eq_true rfl) dX6_doRemove_4 (gCont_i ?_)
  refine gw_if_ne (tgt := 16) dX6_doRemove_7 (by decide) (fun hcnd => ?_) (fun hcnd => ?_)
  · rw [if_neg hcnd] at hB
    refine gw_aload_n 0 rfl dX6_doRemove_16 ?_
    obtain ⟨v3, hv3, hB⟩ := gB1_some hB
    refine gw_getf (C := RX6) (T := TX6) (N := 13) (k := 0) gcl9 (by decide) in_X6 q2694 (gfR_spec hv3) dX6_doRemove_17 ?_
    refine gw_sipush (v := (466 : Int32)) (by decide) dX6_doRemove_20 ?_
    obtain ⟨v4, hv4, hB⟩ := gB1_some hB
    refine gw_iaload hv4 dX6_doRemove_23 ?_
    refine gw_if_ne (tgt := 33) dX6_doRemove_24 (by decide) (fun hcnd => ?_) (fun hcnd => ?_)
    · rw [if_neg hcnd] at hB
      refine gw_aload_n 0 rfl dX6_doRemove_33 ?_
      refine gw_aload_n 0 rfl dX6_doRemove_34 ?_
      obtain ⟨u0, hu7, hB⟩ := gB1_some hB
      obtain ⟨v6, s5, hv6, hB⟩ := gB2_some hB
      refine gw_callV (y := yX6_drafts) (lw_V q2784 q2786 qs55 q143 q2787) hdV_X6_drafts gcl9 hu7 (As := []) (rest := [vR l0]) (m_X6_drafts _ _ _ _ hv6) (Nat.le_of_ble_eq_true rfl) (Nat.le_of_ble_eq_true rfl) rfl (Nat.le_of_ble_eq_true rfl) dX6_doRemove_35 (gCont_i ?_)
      refine gw_iload_n 1 rfl dX6_doRemove_38 ?_
      obtain ⟨u0, hu10, hB⟩ := gB1_some hB
      obtain ⟨v9, s8, hv9, hB⟩ := gB2_some hB
      refine gw_callV (y := yX6_valueBy) (lw_V q2888 q2890 qs80 q143 q2891) hdV_X6_valueBy gcl9 hu10 (As := [vI v6, vI l1]) (rest := []) (m_X6_valueBy _ _ _ _ _ _ hv9) (Nat.le_of_ble_eq_true rfl) (Nat.le_of_ble_eq_true rfl) rfl (Nat.le_of_ble_eq_true rfl) dX6_doRemove_39 (gCont_i ?_)
      exact gw_sub [0, 1] rfl (w_X6_doRemove_42  _ _ _ _ hB)
    · rw [if_pos hcnd] at hB
      refine gw_sipush (v := (-1000 : Int32)) (by decide) dX6_doRemove_27 ?_
      refine gw_goto (tgt := 42) dX6_doRemove_30 (by decide) ?_
      exact gw_sub [0, 1] rfl (w_X6_doRemove_42  _ _ _ _ hB)
  · rw [if_pos hcnd] at hB
    refine gw_aload_n 0 rfl dX6_doRemove_10 ?_
    refine gw_iconst (v := (1 : Int32)) (by decide) dX6_doRemove_11 ?_
    obtain ⟨u0, hu13, hB⟩ := gB1_some hB
    obtain ⟨v12, s11, hv12, hB⟩ := gB2_some hB
    refine gw_callV (y := yX6_refuse) (lw_V q2753 q2755 qs49 q143 q2756) hdV_X6_refuse gcl9 hu13 (As := [vI (1 : Int32)]) (rest := []) (m_X6_refuse _ _ _ _ _ hv12) (Nat.le_of_ble_eq_true rfl) (Nat.le_of_ble_eq_true rfl) rfl (Nat.le_of_ble_eq_true rfl) dX6_doRemove_12 (gCont_i ?_)
    obtain ⟨rfl, rfl⟩ := Prod.mk.inj (Option.some.inj hB)
    exact gw_iret rfl rfl rfl dX6_doRemove_15
noncomputable def f_X6_doRemove (κ : gK) (F : Nat) (a0 : Option Nat) (a1 : Int32) (s : gS) : Option (Int32 × gS) := f_X6_doRemove_0 κ F a0 a1 s
theorem m_X6_doRemove {E : gE} {F : Nat} (a0 : Option Nat) (a1 : Int32) (s : gS) (r : Int32) (s' : gS) (h : f_X6_doRemove (gk E) F a0 a1 s = some (r, s')) : gCT E 7 yX6_doRemove (ws_ yX6_doRemove cX6_doRemove 10 (some FieldType.int)) [vR a0, vI a1] s (.inl (some (vI r))) s' := by
  refine gCT_of2 (fun h => absurd h (by decide)) (plainFor_of_name (by decide)) (Nat.le_of_ble_eq_true rfl) ?_
  exact gw_sub [0, 1] rfl (w_X6_doRemove_0 _ _ _ h)
def dkwX6_remove_0 : List UInt8 := [42, 182, 0, 142, 42, 42, 27, 182, 0, 154, 182, 0, 148, 172]
abbrev dktX6_remove_0 : List UInt8 := dkwX6_remove_0 ++ []
theorem dksX6_remove_0 : cX6_remove.data.toList.drop 0 = dktX6_remove_0 := by decide +kernel
theorem dX6_remove_0 : decode cX6_remove 0 = .ok (.aload_n 0, 1) := dk_42 (dk_at dksX6_remove_0 0 rfl rfl)
theorem dX6_remove_1 : decode cX6_remove 1 = .ok (.invokevirtual 142, 3) := dk_182 0 142 (dk_at dksX6_remove_0 1 rfl rfl)
theorem dX6_remove_4 : decode cX6_remove 4 = .ok (.aload_n 0, 1) := dk_42 (dk_at dksX6_remove_0 4 rfl rfl)
theorem dX6_remove_5 : decode cX6_remove 5 = .ok (.aload_n 0, 1) := dk_42 (dk_at dksX6_remove_0 5 rfl rfl)
theorem dX6_remove_6 : decode cX6_remove 6 = .ok (.iload_n 1, 1) := dk_27 (dk_at dksX6_remove_0 6 rfl rfl)
theorem dX6_remove_7 : decode cX6_remove 7 = .ok (.invokevirtual 154, 3) := dk_182 0 154 (dk_at dksX6_remove_0 7 rfl rfl)
theorem dX6_remove_10 : decode cX6_remove 10 = .ok (.invokevirtual 148, 3) := dk_182 0 148 (dk_at dksX6_remove_0 10 rfl rfl)
theorem dX6_remove_13 : decode cX6_remove 13 = .ok (.ireturn, 1) := dk_172 (dk_at dksX6_remove_0 13 rfl rfl)
/-! PageGardenModel.remove(I)I -/
abbrev M_X6_remove (z0 n0 : Nat) (s' : gS) : gM := (RX6, cX6_remove, 2, (some FieldType.int), "remove", [], 8, z0, n0, s'.2.1, s'.2.2)
abbrev W_X6_remove (E : gE) (z0 n0 : Nat) (r : Int32) (s' : gS) (pc : Nat) (L : List (Nat × gV)) (st : List gV) (s : gS) : Prop := gW E (M_X6_remove z0 n0 s') (gQm E (M_X6_remove z0 n0 s') (.inl (some (vI r))) s') pc L st s
noncomputable def f_X6_remove_0 (κ : gK) (F : Nat)  (l0 : Option Nat) (l1 : Int32) (s : gS) : Option (Int32 × gS) :=
  gB1 (gck s l0 9) fun _ =>
  gB2 (f_X6_hold κ F l0  s) fun v2 s1 =>
  gB1 (gck s1 l0 9) fun _ =>
  gB2 (f_X6_doRemove κ F l0 l1 s1) fun v5 s4 =>
  gB1 (gck s4 l0 9) fun _ =>
  gB2 (f_X6_ends κ F l0 v5 s4) fun v8 s7 =>
  some (v8, s7)
set_option maxHeartbeats 4000000 in
theorem w_X6_remove_0 {E : gE} {F z0 n0 : Nat} {r : Int32} {s' : gS}   : ∀ (l0 : Option Nat) (l1 : Int32)  (s : gS), f_X6_remove_0 (gk E) F  l0 l1 s = some (r, s') → W_X6_remove E z0 n0 r s' 0 [(0, vR l0), (1, vI l1)] [] s := by
  intro l0 l1 s hB
  unfold f_X6_remove_0 at hB
  refine gw_aload_n 0 rfl dX6_remove_0 ?_
  obtain ⟨u0, hu3, hB⟩ := gB1_some hB
  obtain ⟨v2, s1, hv2, hB⟩ := gB2_some hB
  refine gw_callV (y := yX6_hold) (lw_V q2742 q2744 qs47 q143 q2745) hdV_X6_hold gcl9 hu3 (As := []) (rest := []) (m_X6_hold _ _ _ _ hv2) (Nat.le_of_ble_eq_true rfl) (Nat.le_of_ble_eq_true rfl) rfl (Nat.le_of_ble_eq_true rfl) dX6_remove_1 (gCont_v ?_)
  refine gw_aload_n 0 rfl dX6_remove_4 ?_
  refine gw_aload_n 0 rfl dX6_remove_5 ?_
  refine gw_iload_n 1 rfl dX6_remove_6 ?_
  obtain ⟨u0, hu6, hB⟩ := gB1_some hB
  obtain ⟨v5, s4, hv5, hB⟩ := gB2_some hB
  refine gw_callV (y := yX6_doRemove) (lw_V q2884 q2886 qs79 q143 q2887) hdV_X6_doRemove gcl9 hu6 (As := [vI l1]) (rest := [vR l0]) (m_X6_doRemove _ _ _ _ _ hv5) (Nat.le_of_ble_eq_true rfl) (Nat.le_of_ble_eq_true rfl) rfl (Nat.le_of_ble_eq_true rfl) dX6_remove_7 (gCont_i ?_)
  obtain ⟨u0, hu9, hB⟩ := gB1_some hB
  obtain ⟨v8, s7, hv8, hB⟩ := gB2_some hB
  refine gw_callV (y := yX6_ends) (lw_V q2765 q2767 qs52 q143 q2768) hdV_X6_ends gcl9 hu9 (As := [vI v5]) (rest := []) (m_X6_ends _ _ _ _ _ hv8) (Nat.le_of_ble_eq_true rfl) (Nat.le_of_ble_eq_true rfl) rfl (Nat.le_of_ble_eq_true rfl) dX6_remove_10 (gCont_i ?_)
  obtain ⟨rfl, rfl⟩ := Prod.mk.inj (Option.some.inj hB)
  exact gw_iret rfl rfl rfl dX6_remove_13
noncomputable def f_X6_remove (κ : gK) (F : Nat) (a0 : Option Nat) (a1 : Int32) (s : gS) : Option (Int32 × gS) := f_X6_remove_0 κ F a0 a1 s
theorem m_X6_remove {E : gE} {F : Nat} (a0 : Option Nat) (a1 : Int32) (s : gS) (r : Int32) (s' : gS) (h : f_X6_remove (gk E) F a0 a1 s = some (r, s')) : gCT E 8 yX6_remove (ws_ yX6_remove cX6_remove 2 (some FieldType.int)) [vR a0, vI a1] s (.inl (some (vI r))) s' := by
  refine gCT_of2 (fun h => absurd h (by decide)) (plainFor_of_name (by decide)) (Nat.le_of_ble_eq_true rfl) ?_
  exact gw_sub [0, 1] rfl (w_X6_remove_0 _ _ _ h)
def dkwX6_drops_2 : List UInt8 := [3, 79, 42, 180, 0, 7, 17, 1, 211, 2, 79, 27, 172]
abbrev dktX6_drops_2 : List UInt8 := dkwX6_drops_2 ++ []
def dkwX6_drops_1 : List UInt8 := [160, 0, 11, 42, 28, 182, 0, 71, 132, 1, 1, 132, 2, 1, 167, 255, 222, 42, 180, 0, 7, 17, 1, 210]
abbrev dktX6_drops_1 : List UInt8 := dkwX6_drops_1 ++ dktX6_drops_2
def dkwX6_drops_0 : List UInt8 := [3, 60, 3, 61, 28, 16, 32, 162, 0, 34, 42, 28, 8, 3, 182, 0, 67, 42, 28, 7, 182, 0, 53, 4]
abbrev dktX6_drops_0 : List UInt8 := dkwX6_drops_0 ++ dktX6_drops_1
theorem dksX6_drops_0 : cX6_drops.data.toList.drop 0 = dktX6_drops_0 := by decide +kernel
theorem dksX6_drops_1 : cX6_drops.data.toList.drop 24 = dktX6_drops_1 := dk_seg dksX6_drops_0 24 rfl rfl
theorem dksX6_drops_2 : cX6_drops.data.toList.drop 48 = dktX6_drops_2 := dk_seg dksX6_drops_1 24 rfl rfl
theorem dX6_drops_0 : decode cX6_drops 0 = .ok (.iconst 0, 1) := dk_3 (dk_at dksX6_drops_0 0 rfl rfl)
theorem dX6_drops_1 : decode cX6_drops 1 = .ok (.istore_n 1, 1) := dk_60 (dk_at dksX6_drops_0 1 rfl rfl)
theorem dX6_drops_2 : decode cX6_drops 2 = .ok (.iconst 0, 1) := dk_3 (dk_at dksX6_drops_0 2 rfl rfl)
theorem dX6_drops_3 : decode cX6_drops 3 = .ok (.istore_n 2, 1) := dk_61 (dk_at dksX6_drops_0 3 rfl rfl)
theorem dX6_drops_4 : decode cX6_drops 4 = .ok (.iload_n 2, 1) := dk_28 (dk_at dksX6_drops_0 4 rfl rfl)
theorem dX6_drops_5 : decode cX6_drops 5 = .ok (.bipush 32, 2) := dk_16 32 (dk_at dksX6_drops_0 5 rfl rfl)
theorem dX6_drops_7 : decode cX6_drops 7 = .ok (.if_icmp .ge 34, 3) := dk_162 0 34 (dk_at dksX6_drops_0 7 rfl rfl)
theorem dX6_drops_10 : decode cX6_drops 10 = .ok (.aload_n 0, 1) := dk_42 (dk_at dksX6_drops_0 10 rfl rfl)
theorem dX6_drops_11 : decode cX6_drops 11 = .ok (.iload_n 2, 1) := dk_28 (dk_at dksX6_drops_0 11 rfl rfl)
theorem dX6_drops_12 : decode cX6_drops 12 = .ok (.iconst 5, 1) := dk_8 (dk_at dksX6_drops_0 12 rfl rfl)
theorem dX6_drops_13 : decode cX6_drops 13 = .ok (.iconst 0, 1) := dk_3 (dk_at dksX6_drops_0 13 rfl rfl)
theorem dX6_drops_14 : decode cX6_drops 14 = .ok (.invokevirtual 67, 3) := dk_182 0 67 (dk_at dksX6_drops_0 14 rfl rfl)
theorem dX6_drops_17 : decode cX6_drops 17 = .ok (.aload_n 0, 1) := dk_42 (dk_at dksX6_drops_0 17 rfl rfl)
theorem dX6_drops_18 : decode cX6_drops 18 = .ok (.iload_n 2, 1) := dk_28 (dk_at dksX6_drops_0 18 rfl rfl)
theorem dX6_drops_19 : decode cX6_drops 19 = .ok (.iconst 4, 1) := dk_7 (dk_at dksX6_drops_0 19 rfl rfl)
theorem dX6_drops_20 : decode cX6_drops 20 = .ok (.invokevirtual 53, 3) := dk_182 0 53 (dk_at dksX6_drops_0 20 rfl rfl)
theorem dX6_drops_23 : decode cX6_drops 23 = .ok (.iconst 1, 1) := dk_4 (dk_at dksX6_drops_0 23 rfl rfl)
theorem dX6_drops_24 : decode cX6_drops 24 = .ok (.if_icmp .ne 11, 3) := dk_160 0 11 (dk_at dksX6_drops_1 0 rfl rfl)
theorem dX6_drops_27 : decode cX6_drops 27 = .ok (.aload_n 0, 1) := dk_42 (dk_at dksX6_drops_1 3 rfl rfl)
theorem dX6_drops_28 : decode cX6_drops 28 = .ok (.iload_n 2, 1) := dk_28 (dk_at dksX6_drops_1 4 rfl rfl)
theorem dX6_drops_29 : decode cX6_drops 29 = .ok (.invokevirtual 71, 3) := dk_182 0 71 (dk_at dksX6_drops_1 5 rfl rfl)
theorem dX6_drops_32 : decode cX6_drops 32 = .ok (.iinc 1 1, 3) := dk_132 1 1 (dk_at dksX6_drops_1 8 rfl rfl)
theorem dX6_drops_35 : decode cX6_drops 35 = .ok (.iinc 2 1, 3) := dk_132 2 1 (dk_at dksX6_drops_1 11 rfl rfl)
theorem dX6_drops_38 : decode cX6_drops 38 = .ok (.goto (-34), 3) := dk_167 255 222 (dk_at dksX6_drops_1 14 rfl rfl)
theorem dX6_drops_41 : decode cX6_drops 41 = .ok (.aload_n 0, 1) := dk_42 (dk_at dksX6_drops_1 17 rfl rfl)
theorem dX6_drops_42 : decode cX6_drops 42 = .ok (.getfield 7, 3) := dk_180 0 7 (dk_at dksX6_drops_1 18 rfl rfl)
theorem dX6_drops_45 : decode cX6_drops 45 = .ok (.sipush 466, 3) := dk_17 1 210 (dk_at dksX6_drops_1 21 rfl rfl)
theorem dX6_drops_48 : decode cX6_drops 48 = .ok (.iconst 0, 1) := dk_3 (dk_at dksX6_drops_2 0 rfl rfl)
theorem dX6_drops_49 : decode cX6_drops 49 = .ok (.iastore, 1) := dk_79 (dk_at dksX6_drops_2 1 rfl rfl)
theorem dX6_drops_50 : decode cX6_drops 50 = .ok (.aload_n 0, 1) := dk_42 (dk_at dksX6_drops_2 2 rfl rfl)
theorem dX6_drops_51 : decode cX6_drops 51 = .ok (.getfield 7, 3) := dk_180 0 7 (dk_at dksX6_drops_2 3 rfl rfl)
theorem dX6_drops_54 : decode cX6_drops 54 = .ok (.sipush 467, 3) := dk_17 1 211 (dk_at dksX6_drops_2 6 rfl rfl)
theorem dX6_drops_57 : decode cX6_drops 57 = .ok (.iconst (-1), 1) := dk_2 (dk_at dksX6_drops_2 9 rfl rfl)
theorem dX6_drops_58 : decode cX6_drops 58 = .ok (.iastore, 1) := dk_79 (dk_at dksX6_drops_2 10 rfl rfl)
theorem dX6_drops_59 : decode cX6_drops 59 = .ok (.iload_n 1, 1) := dk_27 (dk_at dksX6_drops_2 11 rfl rfl)
theorem dX6_drops_60 : decode cX6_drops 60 = .ok (.ireturn, 1) := dk_172 (dk_at dksX6_drops_2 12 rfl rfl)
/-! PageGardenModel.drops()I -/
abbrev M_X6_drops (z0 n0 : Nat) (s' : gS) : gM := (RX6, cX6_drops, 3, (some FieldType.int), "drops", [], 3, z0, n0, s'.2.1, s'.2.2)
abbrev W_X6_drops (E : gE) (z0 n0 : Nat) (r : Int32) (s' : gS) (pc : Nat) (L : List (Nat × gV)) (st : List gV) (s : gS) : Prop := gW E (M_X6_drops z0 n0 s') (gQm E (M_X6_drops z0 n0 s') (.inl (some (vI r))) s') pc L st s
noncomputable def f_X6_drops_35 (κ : gK) (F : Nat) (k4 : Option Nat → Int32 → Int32 → gS → Option (Int32 × gS)) (l0 : Option Nat) (l1 : Int32) (l2 : Int32) (s : gS) : Option (Int32 × gS) :=
  k4 l0 l1 (l2 + (1 : Int32)) s
set_option maxHeartbeats 4000000 in
theorem w_X6_drops_35 {E : gE} {F z0 n0 : Nat} {r : Int32} {s' : gS} {k4 : Option Nat → Int32 → Int32 → gS → Option (Int32 × gS)} (hk4 : ∀ (l0 : Option Nat) (l1 : Int32) (l2 : Int32) (s : gS), k4 l0 l1 l2 s = some (r, s') → W_X6_drops E z0 n0 r s' 4 [(0, vR l0), (1, vI l1), (2, vI l2)] [] s) : ∀ (l0 : Option Nat) (l1 : Int32) (l2 : Int32)  (s : gS), f_X6_drops_35 (gk E) F k4 l0 l1 l2 s = some (r, s') → W_X6_drops E z0 n0 r s' 35 [(0, vR l0), (1, vI l1), (2, vI l2)] [] s := by
  intro l0 l1 l2 s hB
  unfold f_X6_drops_35 at hB
  refine gw_iinc (w := (1 : Int32)) (L' := [(2, vI (l2 + (1 : Int32))), (0, vR l0), (1, vI l1)]) 2 rfl (by decide) (Nat.le_of_ble_eq_true rfl) rfl dX6_drops_35 ?_
  refine gw_goto (tgt := 4) dX6_drops_38 (by decide) ?_
  exact gw_sub [1, 2, 0] rfl (hk4 _ _ _ _ hB)
noncomputable def f_X6_drops_4b (κ : gK) (F : Nat) (k4 : Option Nat → Int32 → Int32 → gS → Option (Int32 × gS)) (l0 : Option Nat) (l1 : Int32) (l2 : Int32) (s : gS) : Option (Int32 × gS) :=
  if (32 : Int32) ≤ l2 then
    gB1 (gfR s l0 9 0) fun v1 =>
    gB1 (gsI κ s v1 (466 : Int32) (0 : Int32)) fun s2 =>
    gB1 (gfR s2 l0 9 0) fun v3 =>
    gB1 (gsI κ s2 v3 (467 : Int32) (-1 : Int32)) fun s4 =>
    some (l1, s4)
  else
    gB1 (gck s l0 9) fun _ =>
    gB2 (f_X6_lay κ F l0 l2 (5 : Int32) (0 : Int32) s) fun v6 s5 =>
    gB1 (gck s5 l0 9) fun _ =>
    gB2 (f_X6_of κ F l0 l2 (4 : Int32) s5) fun v9 s8 =>
    if v9 = (1 : Int32) then
      gB1 (gck s8 l0 9) fun _ =>
      gB2 (f_X6_becomesWild κ F l0 l2 s8) fun v12 s11 =>
      f_X6_drops_35 κ F k4 l0 (l1 + (1 : Int32)) l2 s11
    else
      f_X6_drops_35 κ F k4 l0 l1 l2 s8
noncomputable def f_X6_drops_4 (κ : gK) (F : Nat)  : Nat → Option Nat → Int32 → Int32 → gS → Option (Int32 × gS)
  | 0 => fun _ _ _ _ => none
  | n + 1 => f_X6_drops_4b κ F  (f_X6_drops_4 κ F  n)
set_option maxHeartbeats 4000000 in
theorem w_X6_drops_4b {E : gE} {F z0 n0 : Nat} {r : Int32} {s' : gS} {k4 : Option Nat → Int32 → Int32 → gS → Option (Int32 × gS)} (hk4 : ∀ (l0 : Option Nat) (l1 : Int32) (l2 : Int32) (s : gS), k4 l0 l1 l2 s = some (r, s') → W_X6_drops E z0 n0 r s' 4 [(0, vR l0), (1, vI l1), (2, vI l2)] [] s) : ∀ (l0 : Option Nat) (l1 : Int32) (l2 : Int32)  (s : gS), f_X6_drops_4b (gk E) F k4 l0 l1 l2 s = some (r, s') → W_X6_drops E z0 n0 r s' 4 [(0, vR l0), (1, vI l1), (2, vI l2)] [] s := by
  intro l0 l1 l2 s hB
  unfold f_X6_drops_4b at hB
  refine gw_iload_n 2 rfl dX6_drops_4 ?_
  refine gw_bipush (v := (32 : Int32)) (by decide) dX6_drops_5 ?_
  refine gw_icmp_ge (tgt := 41) dX6_drops_7 (by decide) (fun hcnd => ?_) (fun hcnd => ?_)
  · rw [if_pos hcnd] at hB
    refine gw_aload_n 0 rfl dX6_drops_41 ?_
    obtain ⟨v1, hv1, hB⟩ := gB1_some hB
    refine gw_getf (C := RX6) (T := TX6) (N := 13) (k := 0) gcl9 (by decide) in_X6 q2694 (gfR_spec hv1) dX6_drops_42 ?_
    refine gw_sipush (v := (466 : Int32)) (by decide) dX6_drops_45 ?_
    refine gw_iconst (v := (0 : Int32)) (by decide) dX6_drops_48 ?_
    obtain ⟨s2, hs2, hB⟩ := gB1_some hB
    refine gw_iastore hs2 dX6_drops_49 ?_
    refine gw_aload_n 0 rfl dX6_drops_50 ?_
    obtain ⟨v3, hv3, hB⟩ := gB1_some hB
    refine gw_getf (C := RX6) (T := TX6) (N := 13) (k := 0) gcl9 (by decide) in_X6 q2694 (gfR_spec hv3) dX6_drops_51 ?_
    refine gw_sipush (v := (467 : Int32)) (by decide) dX6_drops_54 ?_
    refine gw_iconst (v := (-1 : Int32)) (by decide) dX6_drops_57 ?_
    obtain ⟨s4, hs4, hB⟩ := gB1_some hB
    refine gw_iastore hs4 dX6_drops_58 ?_
    refine gw_iload_n 1 rfl dX6_drops_59 ?_
    obtain ⟨rfl, rfl⟩ := Prod.mk.inj (Option.some.inj hB)
    exact gw_iret rfl rfl rfl dX6_drops_60
  · rw [if_neg hcnd] at hB
    refine gw_aload_n 0 rfl dX6_drops_10 ?_
    refine gw_iload_n 2 rfl dX6_drops_11 ?_
    refine gw_iconst (v := (5 : Int32)) (by decide) dX6_drops_12 ?_
    refine gw_iconst (v := (0 : Int32)) (by decide) dX6_drops_13 ?_
    obtain ⟨u0, hu7, hB⟩ := gB1_some hB
    obtain ⟨v6, s5, hv6, hB⟩ := gB2_some hB
    refine gw_callV (y := yX6_lay) (lw_V q2840 q2842 qs69 q143 q2843) hdV_X6_lay gcl9 hu7 (As := [vI l2, vI (5 : Int32), vI (0 : Int32)]) (rest := []) (m_X6_lay _ _ _ _ _ _ _ hv6) (Nat.le_of_ble_eq_true rfl) (Nat.le_of_ble_eq_true rfl) rfl (Nat.le_of_ble_eq_true rfl) dX6_drops_14 (gCont_v ?_)
    refine gw_aload_n 0 rfl dX6_drops_17 ?_
    refine gw_iload_n 2 rfl dX6_drops_18 ?_
    refine gw_iconst (v := (4 : Int32)) (by decide) dX6_drops_19 ?_
    obtain ⟨u0, hu10, hB⟩ := gB1_some hB
    obtain ⟨v9, s8, hv9, hB⟩ := gB2_some hB
    refine gw_callV (y := yX6_of) (lw_V q2796 q2798 qs58 q143 q2799) hdV_X6_of gcl9 hu10 (As := [vI l2, vI (4 : Int32)]) (rest := []) (m_X6_of _ _ _ _ _ _ hv9) (Nat.le_of_ble_eq_true rfl) (Nat.le_of_ble_eq_true rfl) rfl (Nat.le_of_ble_eq_true rfl) dX6_drops_20 (gCont_i ?_)
    refine gw_iconst (v := (1 : Int32)) (by decide) dX6_drops_23 ?_
    refine gw_icmp_ne (tgt := 35) dX6_drops_24 (by decide) (fun hcnd => ?_) (fun hcnd => ?_)
    · rw [if_neg hcnd] at hB
      exact gw_sub [0, 1, 2] rfl (w_X6_drops_35 hk4 _ _ _ _ hB)
    · rw [if_pos hcnd] at hB
      refine gw_aload_n 0 rfl dX6_drops_27 ?_
      refine gw_iload_n 2 rfl dX6_drops_28 ?_
      obtain ⟨u0, hu13, hB⟩ := gB1_some hB
      obtain ⟨v12, s11, hv12, hB⟩ := gB2_some hB
      refine gw_callV (y := yX6_becomesWild) (lw_V q2852 q2854 qs72 q143 q2855) hdV_X6_becomesWild gcl9 hu13 (As := [vI l2]) (rest := []) (m_X6_becomesWild _ _ _ _ _ hv12) (Nat.le_of_ble_eq_true rfl) (Nat.le_of_ble_eq_true rfl) rfl (Nat.le_of_ble_eq_true rfl) dX6_drops_29 (gCont_v ?_)
      refine gw_iinc (w := (1 : Int32)) (L' := [(1, vI (l1 + (1 : Int32))), (0, vR l0), (2, vI l2)]) 1 rfl (by decide) (Nat.le_of_ble_eq_true rfl) rfl dX6_drops_32 ?_
      exact gw_sub [1, 0, 2] rfl (w_X6_drops_35 hk4 _ _ _ _ hB)
theorem w_X6_drops_4 {E : gE} {F z0 n0 : Nat} {r : Int32} {s' : gS}   : ∀ (n : Nat) (l0 : Option Nat) (l1 : Int32) (l2 : Int32)  (s : gS), f_X6_drops_4 (gk E) F  n l0 l1 l2 s = some (r, s') → W_X6_drops E z0 n0 r s' 4 [(0, vR l0), (1, vI l1), (2, vI l2)] [] s := by
  intro n
  induction n with
  | zero => intro l0 l1 l2 s hB; cases hB
  | succ n ih => intro l0 l1 l2 s hB; exact w_X6_drops_4b ih l0 l1 l2 s hB
noncomputable def f_X6_drops_0 (κ : gK) (F : Nat)  (l0 : Option Nat) (s : gS) : Option (Int32 × gS) :=
  f_X6_drops_4 κ F  F l0 (0 : Int32) (0 : Int32) s
set_option maxHeartbeats 4000000 in
theorem w_X6_drops_0 {E : gE} {F z0 n0 : Nat} {r : Int32} {s' : gS}   : ∀ (l0 : Option Nat)  (s : gS), f_X6_drops_0 (gk E) F  l0 s = some (r, s') → W_X6_drops E z0 n0 r s' 0 [(0, vR l0)] [] s := by
  intro l0 s hB
  unfold f_X6_drops_0 at hB
  refine gw_iconst (v := (0 : Int32)) (by decide) dX6_drops_0 ?_
  refine gw_istore_n (L' := [(1, vI (0 : Int32)), (0, vR l0)]) (Nat.le_of_ble_eq_true rfl) rfl dX6_drops_1 ?_
  refine gw_iconst (v := (0 : Int32)) (by decide) dX6_drops_2 ?_
  refine gw_istore_n (L' := [(2, vI (0 : Int32)), (1, vI (0 : Int32)), (0, vR l0)]) (Nat.le_of_ble_eq_true rfl) rfl dX6_drops_3 ?_
  exact gw_sub [2, 1, 0] rfl (w_X6_drops_4  F _ _ _ _ hB)
noncomputable def f_X6_drops (κ : gK) (F : Nat) (a0 : Option Nat) (s : gS) : Option (Int32 × gS) := f_X6_drops_0 κ F a0 s
theorem m_X6_drops {E : gE} {F : Nat} (a0 : Option Nat) (s : gS) (r : Int32) (s' : gS) (h : f_X6_drops (gk E) F a0 s = some (r, s')) : gCT E 3 yX6_drops (ws_ yX6_drops cX6_drops 3 (some FieldType.int)) [vR a0] s (.inl (some (vI r))) s' := by
  refine gCT_of2 (fun h => absurd h (by decide)) (plainFor_of_name (by decide)) (Nat.le_of_ble_eq_true rfl) ?_
  exact gw_sub [0] rfl (w_X6_drops_0 _ _ h)
def dkwX6_frees_3 : List UInt8 := [17, 1, 211, 2, 79, 28, 172]
abbrev dktX6_frees_3 : List UInt8 := dkwX6_frees_3 ++ []
def dkwX6_frees_2 : List UInt8 := [182, 0, 67, 132, 3, 1, 167, 255, 206, 42, 180, 0, 7, 17, 1, 210, 3, 79, 42, 180, 0, 7]
abbrev dktX6_frees_2 : List UInt8 := dkwX6_frees_2 ++ dktX6_frees_3
def dkwX6_frees_1 : List UInt8 := [182, 0, 67, 42, 29, 6, 27, 182, 0, 67, 132, 2, 1, 42, 29, 8, 3, 182, 0, 67, 42, 29, 7, 3]
abbrev dktX6_frees_1 : List UInt8 := dkwX6_frees_1 ++ dktX6_frees_2
def dkwX6_frees_0 : List UInt8 := [3, 61, 3, 62, 29, 16, 32, 162, 0, 50, 42, 29, 8, 182, 0, 53, 4, 160, 0, 20, 42, 29, 3, 5]
abbrev dktX6_frees_0 : List UInt8 := dkwX6_frees_0 ++ dktX6_frees_1
theorem dksX6_frees_0 : cX6_frees.data.toList.drop 0 = dktX6_frees_0 := by decide +kernel
theorem dksX6_frees_1 : cX6_frees.data.toList.drop 24 = dktX6_frees_1 := dk_seg dksX6_frees_0 24 rfl rfl
theorem dksX6_frees_2 : cX6_frees.data.toList.drop 48 = dktX6_frees_2 := dk_seg dksX6_frees_1 24 rfl rfl
theorem dksX6_frees_3 : cX6_frees.data.toList.drop 70 = dktX6_frees_3 := dk_seg dksX6_frees_2 22 rfl rfl
theorem dX6_frees_0 : decode cX6_frees 0 = .ok (.iconst 0, 1) := dk_3 (dk_at dksX6_frees_0 0 rfl rfl)
theorem dX6_frees_1 : decode cX6_frees 1 = .ok (.istore_n 2, 1) := dk_61 (dk_at dksX6_frees_0 1 rfl rfl)
theorem dX6_frees_2 : decode cX6_frees 2 = .ok (.iconst 0, 1) := dk_3 (dk_at dksX6_frees_0 2 rfl rfl)
theorem dX6_frees_3 : decode cX6_frees 3 = .ok (.istore_n 3, 1) := dk_62 (dk_at dksX6_frees_0 3 rfl rfl)
theorem dX6_frees_4 : decode cX6_frees 4 = .ok (.iload_n 3, 1) := dk_29 (dk_at dksX6_frees_0 4 rfl rfl)
theorem dX6_frees_5 : decode cX6_frees 5 = .ok (.bipush 32, 2) := dk_16 32 (dk_at dksX6_frees_0 5 rfl rfl)
theorem dX6_frees_7 : decode cX6_frees 7 = .ok (.if_icmp .ge 50, 3) := dk_162 0 50 (dk_at dksX6_frees_0 7 rfl rfl)
theorem dX6_frees_10 : decode cX6_frees 10 = .ok (.aload_n 0, 1) := dk_42 (dk_at dksX6_frees_0 10 rfl rfl)
theorem dX6_frees_11 : decode cX6_frees 11 = .ok (.iload_n 3, 1) := dk_29 (dk_at dksX6_frees_0 11 rfl rfl)
theorem dX6_frees_12 : decode cX6_frees 12 = .ok (.iconst 5, 1) := dk_8 (dk_at dksX6_frees_0 12 rfl rfl)
theorem dX6_frees_13 : decode cX6_frees 13 = .ok (.invokevirtual 53, 3) := dk_182 0 53 (dk_at dksX6_frees_0 13 rfl rfl)
theorem dX6_frees_16 : decode cX6_frees 16 = .ok (.iconst 1, 1) := dk_4 (dk_at dksX6_frees_0 16 rfl rfl)
theorem dX6_frees_17 : decode cX6_frees 17 = .ok (.if_icmp .ne 20, 3) := dk_160 0 20 (dk_at dksX6_frees_0 17 rfl rfl)
theorem dX6_frees_20 : decode cX6_frees 20 = .ok (.aload_n 0, 1) := dk_42 (dk_at dksX6_frees_0 20 rfl rfl)
theorem dX6_frees_21 : decode cX6_frees 21 = .ok (.iload_n 3, 1) := dk_29 (dk_at dksX6_frees_0 21 rfl rfl)
theorem dX6_frees_22 : decode cX6_frees 22 = .ok (.iconst 0, 1) := dk_3 (dk_at dksX6_frees_0 22 rfl rfl)
theorem dX6_frees_23 : decode cX6_frees 23 = .ok (.iconst 2, 1) := dk_5 (dk_at dksX6_frees_0 23 rfl rfl)
theorem dX6_frees_24 : decode cX6_frees 24 = .ok (.invokevirtual 67, 3) := dk_182 0 67 (dk_at dksX6_frees_1 0 rfl rfl)
theorem dX6_frees_27 : decode cX6_frees 27 = .ok (.aload_n 0, 1) := dk_42 (dk_at dksX6_frees_1 3 rfl rfl)
theorem dX6_frees_28 : decode cX6_frees 28 = .ok (.iload_n 3, 1) := dk_29 (dk_at dksX6_frees_1 4 rfl rfl)
theorem dX6_frees_29 : decode cX6_frees 29 = .ok (.iconst 3, 1) := dk_6 (dk_at dksX6_frees_1 5 rfl rfl)
theorem dX6_frees_30 : decode cX6_frees 30 = .ok (.iload_n 1, 1) := dk_27 (dk_at dksX6_frees_1 6 rfl rfl)
theorem dX6_frees_31 : decode cX6_frees 31 = .ok (.invokevirtual 67, 3) := dk_182 0 67 (dk_at dksX6_frees_1 7 rfl rfl)
theorem dX6_frees_34 : decode cX6_frees 34 = .ok (.iinc 2 1, 3) := dk_132 2 1 (dk_at dksX6_frees_1 10 rfl rfl)
theorem dX6_frees_37 : decode cX6_frees 37 = .ok (.aload_n 0, 1) := dk_42 (dk_at dksX6_frees_1 13 rfl rfl)
theorem dX6_frees_38 : decode cX6_frees 38 = .ok (.iload_n 3, 1) := dk_29 (dk_at dksX6_frees_1 14 rfl rfl)
theorem dX6_frees_39 : decode cX6_frees 39 = .ok (.iconst 5, 1) := dk_8 (dk_at dksX6_frees_1 15 rfl rfl)
theorem dX6_frees_40 : decode cX6_frees 40 = .ok (.iconst 0, 1) := dk_3 (dk_at dksX6_frees_1 16 rfl rfl)
theorem dX6_frees_41 : decode cX6_frees 41 = .ok (.invokevirtual 67, 3) := dk_182 0 67 (dk_at dksX6_frees_1 17 rfl rfl)
theorem dX6_frees_44 : decode cX6_frees 44 = .ok (.aload_n 0, 1) := dk_42 (dk_at dksX6_frees_1 20 rfl rfl)
theorem dX6_frees_45 : decode cX6_frees 45 = .ok (.iload_n 3, 1) := dk_29 (dk_at dksX6_frees_1 21 rfl rfl)
theorem dX6_frees_46 : decode cX6_frees 46 = .ok (.iconst 4, 1) := dk_7 (dk_at dksX6_frees_1 22 rfl rfl)
theorem dX6_frees_47 : decode cX6_frees 47 = .ok (.iconst 0, 1) := dk_3 (dk_at dksX6_frees_1 23 rfl rfl)
theorem dX6_frees_48 : decode cX6_frees 48 = .ok (.invokevirtual 67, 3) := dk_182 0 67 (dk_at dksX6_frees_2 0 rfl rfl)
theorem dX6_frees_51 : decode cX6_frees 51 = .ok (.iinc 3 1, 3) := dk_132 3 1 (dk_at dksX6_frees_2 3 rfl rfl)
theorem dX6_frees_54 : decode cX6_frees 54 = .ok (.goto (-50), 3) := dk_167 255 206 (dk_at dksX6_frees_2 6 rfl rfl)
theorem dX6_frees_57 : decode cX6_frees 57 = .ok (.aload_n 0, 1) := dk_42 (dk_at dksX6_frees_2 9 rfl rfl)
theorem dX6_frees_58 : decode cX6_frees 58 = .ok (.getfield 7, 3) := dk_180 0 7 (dk_at dksX6_frees_2 10 rfl rfl)
theorem dX6_frees_61 : decode cX6_frees 61 = .ok (.sipush 466, 3) := dk_17 1 210 (dk_at dksX6_frees_2 13 rfl rfl)
theorem dX6_frees_64 : decode cX6_frees 64 = .ok (.iconst 0, 1) := dk_3 (dk_at dksX6_frees_2 16 rfl rfl)
theorem dX6_frees_65 : decode cX6_frees 65 = .ok (.iastore, 1) := dk_79 (dk_at dksX6_frees_2 17 rfl rfl)
theorem dX6_frees_66 : decode cX6_frees 66 = .ok (.aload_n 0, 1) := dk_42 (dk_at dksX6_frees_2 18 rfl rfl)
theorem dX6_frees_67 : decode cX6_frees 67 = .ok (.getfield 7, 3) := dk_180 0 7 (dk_at dksX6_frees_2 19 rfl rfl)
theorem dX6_frees_70 : decode cX6_frees 70 = .ok (.sipush 467, 3) := dk_17 1 211 (dk_at dksX6_frees_3 0 rfl rfl)
theorem dX6_frees_73 : decode cX6_frees 73 = .ok (.iconst (-1), 1) := dk_2 (dk_at dksX6_frees_3 3 rfl rfl)
theorem dX6_frees_74 : decode cX6_frees 74 = .ok (.iastore, 1) := dk_79 (dk_at dksX6_frees_3 4 rfl rfl)
theorem dX6_frees_75 : decode cX6_frees 75 = .ok (.iload_n 2, 1) := dk_28 (dk_at dksX6_frees_3 5 rfl rfl)
theorem dX6_frees_76 : decode cX6_frees 76 = .ok (.ireturn, 1) := dk_172 (dk_at dksX6_frees_3 6 rfl rfl)
/-! PageGardenModel.frees(I)I -/
abbrev M_X6_frees (z0 n0 : Nat) (s' : gS) : gM := (RX6, cX6_frees, 4, (some FieldType.int), "frees", [], 2, z0, n0, s'.2.1, s'.2.2)
abbrev W_X6_frees (E : gE) (z0 n0 : Nat) (r : Int32) (s' : gS) (pc : Nat) (L : List (Nat × gV)) (st : List gV) (s : gS) : Prop := gW E (M_X6_frees z0 n0 s') (gQm E (M_X6_frees z0 n0 s') (.inl (some (vI r))) s') pc L st s
noncomputable def f_X6_frees_37 (κ : gK) (F : Nat) (k4 : Option Nat → Int32 → Int32 → Int32 → gS → Option (Int32 × gS)) (l0 : Option Nat) (l1 : Int32) (l2 : Int32) (l3 : Int32) (s : gS) : Option (Int32 × gS) :=
  gB1 (gck s l0 9) fun _ =>
  gB2 (f_X6_lay κ F l0 l3 (5 : Int32) (0 : Int32) s) fun v2 s1 =>
  gB1 (gck s1 l0 9) fun _ =>
  gB2 (f_X6_lay κ F l0 l3 (4 : Int32) (0 : Int32) s1) fun v5 s4 =>
  k4 l0 l1 l2 (l3 + (1 : Int32)) s4
set_option maxHeartbeats 4000000 in
theorem w_X6_frees_37 {E : gE} {F z0 n0 : Nat} {r : Int32} {s' : gS} {k4 : Option Nat → Int32 → Int32 → Int32 → gS → Option (Int32 × gS)} (hk4 : ∀ (l0 : Option Nat) (l1 : Int32) (l2 : Int32) (l3 : Int32) (s : gS), k4 l0 l1 l2 l3 s = some (r, s') → W_X6_frees E z0 n0 r s' 4 [(0, vR l0), (1, vI l1), (2, vI l2), (3, vI l3)] [] s) : ∀ (l0 : Option Nat) (l1 : Int32) (l2 : Int32) (l3 : Int32)  (s : gS), f_X6_frees_37 (gk E) F k4 l0 l1 l2 l3 s = some (r, s') → W_X6_frees E z0 n0 r s' 37 [(0, vR l0), (1, vI l1), (2, vI l2), (3, vI l3)] [] s := by
  intro l0 l1 l2 l3 s hB
  unfold f_X6_frees_37 at hB
  refine gw_aload_n 0 rfl dX6_frees_37 ?_
  refine gw_iload_n 3 rfl dX6_frees_38 ?_
  refine gw_iconst (v := (5 : Int32)) (by decide) dX6_frees_39 ?_
  refine gw_iconst (v := (0 : Int32)) (by decide) dX6_frees_40 ?_
  obtain ⟨u0, hu3, hB⟩ := gB1_some hB
  obtain ⟨v2, s1, hv2, hB⟩ := gB2_some hB
  refine gw_callV (y := yX6_lay) (lw_V q2840 q2842 qs69 q143 q2843) hdV_X6_lay gcl9 hu3 (As := [vI l3, vI (5 : Int32), vI (0 : Int32)]) (rest := []) (m_X6_lay _ _ _ _ _ _ _ hv2) (Nat.le_of_ble_eq_true rfl) (Nat.le_of_ble_eq_true rfl) rfl (Nat.le_of_ble_eq_true rfl) dX6_frees_41 (gCont_v ?_)
  refine gw_aload_n 0 rfl dX6_frees_44 ?_
  refine gw_iload_n 3 rfl dX6_frees_45 ?_
  refine gw_iconst (v := (4 : Int32)) (by decide) dX6_frees_46 ?_
  refine gw_iconst (v := (0 : Int32)) (by decide) dX6_frees_47 ?_
  obtain ⟨u0, hu6, hB⟩ := gB1_some hB
  obtain ⟨v5, s4, hv5, hB⟩ := gB2_some hB
  refine gw_callV (y := yX6_lay) (lw_V q2840 q2842 qs69 q143 q2843) hdV_X6_lay gcl9 hu6 (As := [vI l3, vI (4 : Int32), vI (0 : Int32)]) (rest := []) (m_X6_lay _ _ _ _ _ _ _ hv5) (Nat.le_of_ble_eq_true rfl) (Nat.le_of_ble_eq_true rfl) rfl (Nat.le_of_ble_eq_true rfl) dX6_frees_48 (gCont_v ?_)
  refine gw_iinc (w := (1 : Int32)) (L' := [(3, vI (l3 + (1 : Int32))), (0, vR l0), (1, vI l1), (2, vI l2)]) 3 rfl (by decide) (Nat.le_of_ble_eq_true rfl) rfl dX6_frees_51 ?_
  refine gw_goto (tgt := 4) dX6_frees_54 (by decide) ?_
  exact gw_sub [1, 2, 3, 0] rfl (hk4 _ _ _ _ _ hB)
noncomputable def f_X6_frees_4b (κ : gK) (F : Nat) (k4 : Option Nat → Int32 → Int32 → Int32 → gS → Option (Int32 × gS)) (l0 : Option Nat) (l1 : Int32) (l2 : Int32) (l3 : Int32) (s : gS) : Option (Int32 × gS) :=
  if (32 : Int32) ≤ l3 then
    gB1 (gfR s l0 9 0) fun v1 =>
    gB1 (gsI κ s v1 (466 : Int32) (0 : Int32)) fun s2 =>
    gB1 (gfR s2 l0 9 0) fun v3 =>
    gB1 (gsI κ s2 v3 (467 : Int32) (-1 : Int32)) fun s4 =>
    some (l2, s4)
  else
    gB1 (gck s l0 9) fun _ =>
    gB2 (f_X6_of κ F l0 l3 (5 : Int32) s) fun v6 s5 =>
    if v6 = (1 : Int32) then
      gB1 (gck s5 l0 9) fun _ =>
      gB2 (f_X6_lay κ F l0 l3 (0 : Int32) (2 : Int32) s5) fun v9 s8 =>
      gB1 (gck s8 l0 9) fun _ =>
      gB2 (f_X6_lay κ F l0 l3 (3 : Int32) l1 s8) fun v12 s11 =>
      f_X6_frees_37 κ F k4 l0 l1 (l2 + (1 : Int32)) l3 s11
    else
      f_X6_frees_37 κ F k4 l0 l1 l2 l3 s5
noncomputable def f_X6_frees_4 (κ : gK) (F : Nat)  : Nat → Option Nat → Int32 → Int32 → Int32 → gS → Option (Int32 × gS)
  | 0 => fun _ _ _ _ _ => none
  | n + 1 => f_X6_frees_4b κ F  (f_X6_frees_4 κ F  n)
set_option maxHeartbeats 4000000 in
theorem w_X6_frees_4b {E : gE} {F z0 n0 : Nat} {r : Int32} {s' : gS} {k4 : Option Nat → Int32 → Int32 → Int32 → gS → Option (Int32 × gS)} (hk4 : ∀ (l0 : Option Nat) (l1 : Int32) (l2 : Int32) (l3 : Int32) (s : gS), k4 l0 l1 l2 l3 s = some (r, s') → W_X6_frees E z0 n0 r s' 4 [(0, vR l0), (1, vI l1), (2, vI l2), (3, vI l3)] [] s) : ∀ (l0 : Option Nat) (l1 : Int32) (l2 : Int32) (l3 : Int32)  (s : gS), f_X6_frees_4b (gk E) F k4 l0 l1 l2 l3 s = some (r, s') → W_X6_frees E z0 n0 r s' 4 [(0, vR l0), (1, vI l1), (2, vI l2), (3, vI l3)] [] s := by
  intro l0 l1 l2 l3 s hB
  unfold f_X6_frees_4b at hB
  refine gw_iload_n 3 rfl dX6_frees_4 ?_
  refine gw_bipush (v := (32 : Int32)) (by decide) dX6_frees_5 ?_
  refine gw_icmp_ge (tgt := 57) dX6_frees_7 (by decide) (fun hcnd => ?_) (fun hcnd => ?_)
  · rw [if_pos hcnd] at hB
    refine gw_aload_n 0 rfl dX6_frees_57 ?_
    obtain ⟨v1, hv1, hB⟩ := gB1_some hB
    refine gw_getf (C := RX6) (T := TX6) (N := 13) (k := 0) gcl9 (by decide) in_X6 q2694 (gfR_spec hv1) dX6_frees_58 ?_
    refine gw_sipush (v := (466 : Int32)) (by decide) dX6_frees_61 ?_
    refine gw_iconst (v := (0 : Int32)) (by decide) dX6_frees_64 ?_
    obtain ⟨s2, hs2, hB⟩ := gB1_some hB
    refine gw_iastore hs2 dX6_frees_65 ?_
    refine gw_aload_n 0 rfl dX6_frees_66 ?_
    obtain ⟨v3, hv3, hB⟩ := gB1_some hB
    refine gw_getf (C := RX6) (T := TX6) (N := 13) (k := 0) gcl9 (by decide) in_X6 q2694 (gfR_spec hv3) dX6_frees_67 ?_
    refine gw_sipush (v := (467 : Int32)) (by decide) dX6_frees_70 ?_
    refine gw_iconst (v := (-1 : Int32)) (by decide) dX6_frees_73 ?_
    obtain ⟨s4, hs4, hB⟩ := gB1_some hB
    refine gw_iastore hs4 dX6_frees_74 ?_
    refine gw_iload_n 2 rfl dX6_frees_75 ?_
    obtain ⟨rfl, rfl⟩ := Prod.mk.inj (Option.some.inj hB)
    exact gw_iret rfl rfl rfl dX6_frees_76
  · rw [if_neg hcnd] at hB
    refine gw_aload_n 0 rfl dX6_frees_10 ?_
    refine gw_iload_n 3 rfl dX6_frees_11 ?_
    refine gw_iconst (v := (5 : Int32)) (by decide) dX6_frees_12 ?_
    obtain ⟨u0, hu7, hB⟩ := gB1_some hB
    obtain ⟨v6, s5, hv6, hB⟩ := gB2_some hB
    refine gw_callV (y := yX6_of) (lw_V q2796 q2798 qs58 q143 q2799) hdV_X6_of gcl9 hu7 (As := [vI l3, vI (5 : Int32)]) (rest := []) (m_X6_of _ _ _ _ _ _ hv6) (Nat.le_of_ble_eq_true rfl) (Nat.le_of_ble_eq_true rfl) rfl (Nat.le_of_ble_eq_true rfl) dX6_frees_13 (gCont_i ?_)
    refine gw_iconst (v := (1 : Int32)) (by decide) dX6_frees_16 ?_
    refine gw_icmp_ne (tgt := 37) dX6_frees_17 (by decide) (fun hcnd => ?_) (fun hcnd => ?_)
    · rw [if_neg hcnd] at hB
      exact gw_sub [0, 1, 2, 3] rfl (w_X6_frees_37 hk4 _ _ _ _ _ hB)
    · rw [if_pos hcnd] at hB
      refine gw_aload_n 0 rfl dX6_frees_20 ?_
      refine gw_iload_n 3 rfl dX6_frees_21 ?_
      refine gw_iconst (v := (0 : Int32)) (by decide) dX6_frees_22 ?_
      refine gw_iconst (v := (2 : Int32)) (by decide) dX6_frees_23 ?_
      obtain ⟨u0, hu10, hB⟩ := gB1_some hB
      obtain ⟨v9, s8, hv9, hB⟩ := gB2_some hB
      refine gw_callV (y := yX6_lay) (lw_V q2840 q2842 qs69 q143 q2843) hdV_X6_lay gcl9 hu10 (As := [vI l3, vI (0 : Int32), vI (2 : Int32)]) (rest := []) (m_X6_lay _ _ _ _ _ _ _ hv9) (Nat.le_of_ble_eq_true rfl) (Nat.le_of_ble_eq_true rfl) rfl (Nat.le_of_ble_eq_true rfl) dX6_frees_24 (gCont_v ?_)
      refine gw_aload_n 0 rfl dX6_frees_27 ?_
      refine gw_iload_n 3 rfl dX6_frees_28 ?_
      refine gw_iconst (v := (3 : Int32)) (by decide) dX6_frees_29 ?_
      refine gw_iload_n 1 rfl dX6_frees_30 ?_
      obtain ⟨u0, hu13, hB⟩ := gB1_some hB
      obtain ⟨v12, s11, hv12, hB⟩ := gB2_some hB
      refine gw_callV (y := yX6_lay) (lw_V q2840 q2842 qs69 q143 q2843) hdV_X6_lay gcl9 hu13 (As := [vI l3, vI (3 : Int32), vI l1]) (rest := []) (m_X6_lay _ _ _ _ _ _ _ hv12) (Nat.le_of_ble_eq_true rfl) (Nat.le_of_ble_eq_true rfl) rfl (Nat.le_of_ble_eq_true rfl) dX6_frees_31 (gCont_v ?_)
      refine gw_iinc (w := (1 : Int32)) (L' := [(2, vI (l2 + (1 : Int32))), (0, vR l0), (1, vI l1), (3, vI l3)]) 2 rfl (by decide) (Nat.le_of_ble_eq_true rfl) rfl dX6_frees_34 ?_
      exact gw_sub [1, 2, 0, 3] rfl (w_X6_frees_37 hk4 _ _ _ _ _ hB)
theorem w_X6_frees_4 {E : gE} {F z0 n0 : Nat} {r : Int32} {s' : gS}   : ∀ (n : Nat) (l0 : Option Nat) (l1 : Int32) (l2 : Int32) (l3 : Int32)  (s : gS), f_X6_frees_4 (gk E) F  n l0 l1 l2 l3 s = some (r, s') → W_X6_frees E z0 n0 r s' 4 [(0, vR l0), (1, vI l1), (2, vI l2), (3, vI l3)] [] s := by
  intro n
  induction n with
  | zero => intro l0 l1 l2 l3 s hB; cases hB
  | succ n ih => intro l0 l1 l2 l3 s hB; exact w_X6_frees_4b ih l0 l1 l2 l3 s hB
noncomputable def f_X6_frees_0 (κ : gK) (F : Nat)  (l0 : Option Nat) (l1 : Int32) (s : gS) : Option (Int32 × gS) :=
  f_X6_frees_4 κ F  F l0 l1 (0 : Int32) (0 : Int32) s
set_option maxHeartbeats 4000000 in
theorem w_X6_frees_0 {E : gE} {F z0 n0 : Nat} {r : Int32} {s' : gS}   : ∀ (l0 : Option Nat) (l1 : Int32)  (s : gS), f_X6_frees_0 (gk E) F  l0 l1 s = some (r, s') → W_X6_frees E z0 n0 r s' 0 [(0, vR l0), (1, vI l1)] [] s := by
  intro l0 l1 s hB
  unfold f_X6_frees_0 at hB
  refine gw_iconst (v := (0 : Int32)) (by decide) dX6_frees_0 ?_
  refine gw_istore_n (L' := [(2, vI (0 : Int32)), (0, vR l0), (1, vI l1)]) (Nat.le_of_ble_eq_true rfl) rfl dX6_frees_1 ?_
  refine gw_iconst (v := (0 : Int32)) (by decide) dX6_frees_2 ?_
  refine gw_istore_n (L' := [(3, vI (0 : Int32)), (2, vI (0 : Int32)), (0, vR l0), (1, vI l1)]) (Nat.le_of_ble_eq_true rfl) rfl dX6_frees_3 ?_
  exact gw_sub [2, 3, 1, 0] rfl (w_X6_frees_4  F _ _ _ _ _ hB)
noncomputable def f_X6_frees (κ : gK) (F : Nat) (a0 : Option Nat) (a1 : Int32) (s : gS) : Option (Int32 × gS) := f_X6_frees_0 κ F a0 a1 s
theorem m_X6_frees {E : gE} {F : Nat} (a0 : Option Nat) (a1 : Int32) (s : gS) (r : Int32) (s' : gS) (h : f_X6_frees (gk E) F a0 a1 s = some (r, s')) : gCT E 2 yX6_frees (ws_ yX6_frees cX6_frees 4 (some FieldType.int)) [vR a0, vI a1] s (.inl (some (vI r))) s' := by
  refine gCT_of2 (fun h => absurd h (by decide)) (plainFor_of_name (by decide)) (Nat.le_of_ble_eq_true rfl) ?_
  exact gw_sub [0, 1] rfl (w_X6_frees_0 _ _ _ h)
def dkwX6_doCommit_8 : List UInt8 := [79, 42, 180, 0, 7, 17, 1, 212, 92, 46, 4, 96, 79, 42, 28, 182, 0, 160, 172]
abbrev dktX6_doCommit_8 : List UInt8 := dkwX6_doCommit_8 ++ []
def dkwX6_doCommit_7 : List UInt8 := [42, 180, 0, 7, 17, 1, 213, 92, 46, 4, 96, 79, 17, 252, 24, 172, 42, 180, 0, 7, 29, 5, 96, 4]
abbrev dktX6_doCommit_7 : List UInt8 := dkwX6_doCommit_7 ++ dktX6_doCommit_8
def dkwX6_doCommit_6 : List UInt8 := [46, 167, 0, 11, 42, 180, 0, 7, 17, 1, 211, 46, 79, 27, 6, 162, 0, 25, 42, 182, 0, 157, 54, 4]
abbrev dktX6_doCommit_6 : List UInt8 := dkwX6_doCommit_6 ++ dktX6_doCommit_7
def dkwX6_doCommit_5 : List UInt8 := [167, 0, 4, 28, 79, 42, 180, 0, 7, 29, 4, 96, 27, 5, 162, 0, 14, 42, 180, 0, 7, 29, 4, 96]
abbrev dktX6_doCommit_5 : List UInt8 := dkwX6_doCommit_5 ++ dktX6_doCommit_6
def dkwX6_doCommit_4 : List UInt8 := [3, 79, 42, 180, 0, 7, 29, 3, 96, 27, 5, 162, 0, 14, 42, 180, 0, 7, 29, 3, 96, 46]
abbrev dktX6_doCommit_4 : List UInt8 := dkwX6_doCommit_4 ++ dktX6_doCommit_5
def dkwX6_doCommit_3 : List UInt8 := [96, 62, 42, 180, 0, 7, 29, 5, 96, 27, 154, 0, 14, 42, 180, 0, 7, 29, 5, 96, 46, 167, 0, 4]
abbrev dktX6_doCommit_3 : List UInt8 := dkwX6_doCommit_3 ++ dktX6_doCommit_4
def dkwX6_doCommit_2 : List UInt8 := [172, 42, 42, 182, 0, 42, 3, 182, 0, 46, 4, 96, 61, 17, 1, 192, 6, 4, 42, 182, 0, 42, 100, 104]
abbrev dktX6_doCommit_2 : List UInt8 := dkwX6_doCommit_2 ++ dktX6_doCommit_3
def dkwX6_doCommit_1 : List UInt8 := [154, 0, 9, 42, 5, 182, 0, 117, 172, 42, 180, 0, 7, 17, 1, 211, 46, 156, 0, 8, 42, 182, 0, 157]
abbrev dktX6_doCommit_1 : List UInt8 := dkwX6_doCommit_1 ++ dktX6_doCommit_2
def dkwX6_doCommit_0 : List UInt8 := [27, 3, 6, 184, 0, 113, 154, 0, 9, 42, 4, 182, 0, 117, 172, 42, 180, 0, 7, 17, 1, 210, 46]
abbrev dktX6_doCommit_0 : List UInt8 := dkwX6_doCommit_0 ++ dktX6_doCommit_1
theorem dksX6_doCommit_0 : cX6_doCommit.data.toList.drop 0 = dktX6_doCommit_0 := by decide +kernel
theorem dksX6_doCommit_1 : cX6_doCommit.data.toList.drop 23 = dktX6_doCommit_1 := dk_seg dksX6_doCommit_0 23 rfl rfl
theorem dksX6_doCommit_2 : cX6_doCommit.data.toList.drop 47 = dktX6_doCommit_2 := dk_seg dksX6_doCommit_1 24 rfl rfl
theorem dksX6_doCommit_3 : cX6_doCommit.data.toList.drop 71 = dktX6_doCommit_3 := dk_seg dksX6_doCommit_2 24 rfl rfl
theorem dksX6_doCommit_4 : cX6_doCommit.data.toList.drop 95 = dktX6_doCommit_4 := dk_seg dksX6_doCommit_3 24 rfl rfl
theorem dksX6_doCommit_5 : cX6_doCommit.data.toList.drop 117 = dktX6_doCommit_5 := dk_seg dksX6_doCommit_4 22 rfl rfl
theorem dksX6_doCommit_6 : cX6_doCommit.data.toList.drop 141 = dktX6_doCommit_6 := dk_seg dksX6_doCommit_5 24 rfl rfl
theorem dksX6_doCommit_7 : cX6_doCommit.data.toList.drop 165 = dktX6_doCommit_7 := dk_seg dksX6_doCommit_6 24 rfl rfl
theorem dksX6_doCommit_8 : cX6_doCommit.data.toList.drop 189 = dktX6_doCommit_8 := dk_seg dksX6_doCommit_7 24 rfl rfl
theorem dX6_doCommit_0 : decode cX6_doCommit 0 = .ok (.iload_n 1, 1) := dk_27 (dk_at dksX6_doCommit_0 0 rfl rfl)
theorem dX6_doCommit_1 : decode cX6_doCommit 1 = .ok (.iconst 0, 1) := dk_3 (dk_at dksX6_doCommit_0 1 rfl rfl)
theorem dX6_doCommit_2 : decode cX6_doCommit 2 = .ok (.iconst 3, 1) := dk_6 (dk_at dksX6_doCommit_0 2 rfl rfl)
theorem dX6_doCommit_3 : decode cX6_doCommit 3 = .ok (.invokestatic 113, 3) := dk_184 0 113 (dk_at dksX6_doCommit_0 3 rfl rfl)
theorem dX6_doCommit_6 : decode cX6_doCommit 6 = .ok (.ifCond .ne 9, 3) := dk_154 0 9 (dk_at dksX6_doCommit_0 6 rfl rfl)
theorem dX6_doCommit_9 : decode cX6_doCommit 9 = .ok (.aload_n 0, 1) := dk_42 (dk_at dksX6_doCommit_0 9 rfl rfl)
theorem dX6_doCommit_10 : decode cX6_doCommit 10 = .ok (.iconst 1, 1) := dk_4 (dk_at dksX6_doCommit_0 10 rfl rfl)
theorem dX6_doCommit_11 : decode cX6_doCommit 11 = .ok (.invokevirtual 117, 3) := dk_182 0 117 (dk_at dksX6_doCommit_0 11 rfl rfl)
theorem dX6_doCommit_14 : decode cX6_doCommit 14 = .ok (.ireturn, 1) := dk_172 (dk_at dksX6_doCommit_0 14 rfl rfl)
theorem dX6_doCommit_15 : decode cX6_doCommit 15 = .ok (.aload_n 0, 1) := dk_42 (dk_at dksX6_doCommit_0 15 rfl rfl)
theorem dX6_doCommit_16 : decode cX6_doCommit 16 = .ok (.getfield 7, 3) := dk_180 0 7 (dk_at dksX6_doCommit_0 16 rfl rfl)
theorem dX6_doCommit_19 : decode cX6_doCommit 19 = .ok (.sipush 466, 3) := dk_17 1 210 (dk_at dksX6_doCommit_0 19 rfl rfl)
theorem dX6_doCommit_22 : decode cX6_doCommit 22 = .ok (.iaload, 1) := dk_46 (dk_at dksX6_doCommit_0 22 rfl rfl)
theorem dX6_doCommit_23 : decode cX6_doCommit 23 = .ok (.ifCond .ne 9, 3) := dk_154 0 9 (dk_at dksX6_doCommit_1 0 rfl rfl)
theorem dX6_doCommit_26 : decode cX6_doCommit 26 = .ok (.aload_n 0, 1) := dk_42 (dk_at dksX6_doCommit_1 3 rfl rfl)
theorem dX6_doCommit_27 : decode cX6_doCommit 27 = .ok (.iconst 2, 1) := dk_5 (dk_at dksX6_doCommit_1 4 rfl rfl)
theorem dX6_doCommit_28 : decode cX6_doCommit 28 = .ok (.invokevirtual 117, 3) := dk_182 0 117 (dk_at dksX6_doCommit_1 5 rfl rfl)
theorem dX6_doCommit_31 : decode cX6_doCommit 31 = .ok (.ireturn, 1) := dk_172 (dk_at dksX6_doCommit_1 8 rfl rfl)
theorem dX6_doCommit_32 : decode cX6_doCommit 32 = .ok (.aload_n 0, 1) := dk_42 (dk_at dksX6_doCommit_1 9 rfl rfl)
theorem dX6_doCommit_33 : decode cX6_doCommit 33 = .ok (.getfield 7, 3) := dk_180 0 7 (dk_at dksX6_doCommit_1 10 rfl rfl)
theorem dX6_doCommit_36 : decode cX6_doCommit 36 = .ok (.sipush 467, 3) := dk_17 1 211 (dk_at dksX6_doCommit_1 13 rfl rfl)
theorem dX6_doCommit_39 : decode cX6_doCommit 39 = .ok (.iaload, 1) := dk_46 (dk_at dksX6_doCommit_1 16 rfl rfl)
theorem dX6_doCommit_40 : decode cX6_doCommit 40 = .ok (.ifCond .ge 8, 3) := dk_156 0 8 (dk_at dksX6_doCommit_1 17 rfl rfl)
theorem dX6_doCommit_43 : decode cX6_doCommit 43 = .ok (.aload_n 0, 1) := dk_42 (dk_at dksX6_doCommit_1 20 rfl rfl)
theorem dX6_doCommit_44 : decode cX6_doCommit 44 = .ok (.invokevirtual 157, 3) := dk_182 0 157 (dk_at dksX6_doCommit_1 21 rfl rfl)
theorem dX6_doCommit_47 : decode cX6_doCommit 47 = .ok (.ireturn, 1) := dk_172 (dk_at dksX6_doCommit_2 0 rfl rfl)
theorem dX6_doCommit_48 : decode cX6_doCommit 48 = .ok (.aload_n 0, 1) := dk_42 (dk_at dksX6_doCommit_2 1 rfl rfl)
theorem dX6_doCommit_49 : decode cX6_doCommit 49 = .ok (.aload_n 0, 1) := dk_42 (dk_at dksX6_doCommit_2 2 rfl rfl)
theorem dX6_doCommit_50 : decode cX6_doCommit 50 = .ok (.invokevirtual 42, 3) := dk_182 0 42 (dk_at dksX6_doCommit_2 3 rfl rfl)
theorem dX6_doCommit_53 : decode cX6_doCommit 53 = .ok (.iconst 0, 1) := dk_3 (dk_at dksX6_doCommit_2 6 rfl rfl)
theorem dX6_doCommit_54 : decode cX6_doCommit 54 = .ok (.invokevirtual 46, 3) := dk_182 0 46 (dk_at dksX6_doCommit_2 7 rfl rfl)
theorem dX6_doCommit_57 : decode cX6_doCommit 57 = .ok (.iconst 1, 1) := dk_4 (dk_at dksX6_doCommit_2 10 rfl rfl)
theorem dX6_doCommit_58 : decode cX6_doCommit 58 = .ok (.iadd, 1) := dk_96 (dk_at dksX6_doCommit_2 11 rfl rfl)
theorem dX6_doCommit_59 : decode cX6_doCommit 59 = .ok (.istore_n 2, 1) := dk_61 (dk_at dksX6_doCommit_2 12 rfl rfl)
theorem dX6_doCommit_60 : decode cX6_doCommit 60 = .ok (.sipush 448, 3) := dk_17 1 192 (dk_at dksX6_doCommit_2 13 rfl rfl)
theorem dX6_doCommit_63 : decode cX6_doCommit 63 = .ok (.iconst 3, 1) := dk_6 (dk_at dksX6_doCommit_2 16 rfl rfl)
theorem dX6_doCommit_64 : decode cX6_doCommit 64 = .ok (.iconst 1, 1) := dk_4 (dk_at dksX6_doCommit_2 17 rfl rfl)
theorem dX6_doCommit_65 : decode cX6_doCommit 65 = .ok (.aload_n 0, 1) := dk_42 (dk_at dksX6_doCommit_2 18 rfl rfl)
theorem dX6_doCommit_66 : decode cX6_doCommit 66 = .ok (.invokevirtual 42, 3) := dk_182 0 42 (dk_at dksX6_doCommit_2 19 rfl rfl)
theorem dX6_doCommit_69 : decode cX6_doCommit 69 = .ok (.isub, 1) := dk_100 (dk_at dksX6_doCommit_2 22 rfl rfl)
theorem dX6_doCommit_70 : decode cX6_doCommit 70 = .ok (.imul, 1) := dk_104 (dk_at dksX6_doCommit_2 23 rfl rfl)
theorem dX6_doCommit_71 : decode cX6_doCommit 71 = .ok (.iadd, 1) := dk_96 (dk_at dksX6_doCommit_3 0 rfl rfl)
theorem dX6_doCommit_72 : decode cX6_doCommit 72 = .ok (.istore_n 3, 1) := dk_62 (dk_at dksX6_doCommit_3 1 rfl rfl)
theorem dX6_doCommit_73 : decode cX6_doCommit 73 = .ok (.aload_n 0, 1) := dk_42 (dk_at dksX6_doCommit_3 2 rfl rfl)
theorem dX6_doCommit_74 : decode cX6_doCommit 74 = .ok (.getfield 7, 3) := dk_180 0 7 (dk_at dksX6_doCommit_3 3 rfl rfl)
theorem dX6_doCommit_77 : decode cX6_doCommit 77 = .ok (.iload_n 3, 1) := dk_29 (dk_at dksX6_doCommit_3 6 rfl rfl)
theorem dX6_doCommit_78 : decode cX6_doCommit 78 = .ok (.iconst 2, 1) := dk_5 (dk_at dksX6_doCommit_3 7 rfl rfl)
theorem dX6_doCommit_79 : decode cX6_doCommit 79 = .ok (.iadd, 1) := dk_96 (dk_at dksX6_doCommit_3 8 rfl rfl)
theorem dX6_doCommit_80 : decode cX6_doCommit 80 = .ok (.iload_n 1, 1) := dk_27 (dk_at dksX6_doCommit_3 9 rfl rfl)
theorem dX6_doCommit_81 : decode cX6_doCommit 81 = .ok (.ifCond .ne 14, 3) := dk_154 0 14 (dk_at dksX6_doCommit_3 10 rfl rfl)
theorem dX6_doCommit_84 : decode cX6_doCommit 84 = .ok (.aload_n 0, 1) := dk_42 (dk_at dksX6_doCommit_3 13 rfl rfl)
theorem dX6_doCommit_85 : decode cX6_doCommit 85 = .ok (.getfield 7, 3) := dk_180 0 7 (dk_at dksX6_doCommit_3 14 rfl rfl)
theorem dX6_doCommit_88 : decode cX6_doCommit 88 = .ok (.iload_n 3, 1) := dk_29 (dk_at dksX6_doCommit_3 17 rfl rfl)
theorem dX6_doCommit_89 : decode cX6_doCommit 89 = .ok (.iconst 2, 1) := dk_5 (dk_at dksX6_doCommit_3 18 rfl rfl)
theorem dX6_doCommit_90 : decode cX6_doCommit 90 = .ok (.iadd, 1) := dk_96 (dk_at dksX6_doCommit_3 19 rfl rfl)
theorem dX6_doCommit_91 : decode cX6_doCommit 91 = .ok (.iaload, 1) := dk_46 (dk_at dksX6_doCommit_3 20 rfl rfl)
theorem dX6_doCommit_92 : decode cX6_doCommit 92 = .ok (.goto 4, 3) := dk_167 0 4 (dk_at dksX6_doCommit_3 21 rfl rfl)
theorem dX6_doCommit_95 : decode cX6_doCommit 95 = .ok (.iconst 0, 1) := dk_3 (dk_at dksX6_doCommit_4 0 rfl rfl)
theorem dX6_doCommit_96 : decode cX6_doCommit 96 = .ok (.iastore, 1) := dk_79 (dk_at dksX6_doCommit_4 1 rfl rfl)
theorem dX6_doCommit_97 : decode cX6_doCommit 97 = .ok (.aload_n 0, 1) := dk_42 (dk_at dksX6_doCommit_4 2 rfl rfl)
theorem dX6_doCommit_98 : decode cX6_doCommit 98 = .ok (.getfield 7, 3) := dk_180 0 7 (dk_at dksX6_doCommit_4 3 rfl rfl)
theorem dX6_doCommit_101 : decode cX6_doCommit 101 = .ok (.iload_n 3, 1) := dk_29 (dk_at dksX6_doCommit_4 6 rfl rfl)
theorem dX6_doCommit_102 : decode cX6_doCommit 102 = .ok (.iconst 0, 1) := dk_3 (dk_at dksX6_doCommit_4 7 rfl rfl)
theorem dX6_doCommit_103 : decode cX6_doCommit 103 = .ok (.iadd, 1) := dk_96 (dk_at dksX6_doCommit_4 8 rfl rfl)
theorem dX6_doCommit_104 : decode cX6_doCommit 104 = .ok (.iload_n 1, 1) := dk_27 (dk_at dksX6_doCommit_4 9 rfl rfl)
theorem dX6_doCommit_105 : decode cX6_doCommit 105 = .ok (.iconst 2, 1) := dk_5 (dk_at dksX6_doCommit_4 10 rfl rfl)
theorem dX6_doCommit_106 : decode cX6_doCommit 106 = .ok (.if_icmp .ge 14, 3) := dk_162 0 14 (dk_at dksX6_doCommit_4 11 rfl rfl)
theorem dX6_doCommit_109 : decode cX6_doCommit 109 = .ok (.aload_n 0, 1) := dk_42 (dk_at dksX6_doCommit_4 14 rfl rfl)
theorem dX6_doCommit_110 : decode cX6_doCommit 110 = .ok (.getfield 7, 3) := dk_180 0 7 (dk_at dksX6_doCommit_4 15 rfl rfl)
theorem dX6_doCommit_113 : decode cX6_doCommit 113 = .ok (.iload_n 3, 1) := dk_29 (dk_at dksX6_doCommit_4 18 rfl rfl)
theorem dX6_doCommit_114 : decode cX6_doCommit 114 = .ok (.iconst 0, 1) := dk_3 (dk_at dksX6_doCommit_4 19 rfl rfl)
theorem dX6_doCommit_115 : decode cX6_doCommit 115 = .ok (.iadd, 1) := dk_96 (dk_at dksX6_doCommit_4 20 rfl rfl)
theorem dX6_doCommit_116 : decode cX6_doCommit 116 = .ok (.iaload, 1) := dk_46 (dk_at dksX6_doCommit_4 21 rfl rfl)
theorem dX6_doCommit_117 : decode cX6_doCommit 117 = .ok (.goto 4, 3) := dk_167 0 4 (dk_at dksX6_doCommit_5 0 rfl rfl)
theorem dX6_doCommit_120 : decode cX6_doCommit 120 = .ok (.iload_n 2, 1) := dk_28 (dk_at dksX6_doCommit_5 3 rfl rfl)
theorem dX6_doCommit_121 : decode cX6_doCommit 121 = .ok (.iastore, 1) := dk_79 (dk_at dksX6_doCommit_5 4 rfl rfl)
theorem dX6_doCommit_122 : decode cX6_doCommit 122 = .ok (.aload_n 0, 1) := dk_42 (dk_at dksX6_doCommit_5 5 rfl rfl)
theorem dX6_doCommit_123 : decode cX6_doCommit 123 = .ok (.getfield 7, 3) := dk_180 0 7 (dk_at dksX6_doCommit_5 6 rfl rfl)
theorem dX6_doCommit_126 : decode cX6_doCommit 126 = .ok (.iload_n 3, 1) := dk_29 (dk_at dksX6_doCommit_5 9 rfl rfl)
theorem dX6_doCommit_127 : decode cX6_doCommit 127 = .ok (.iconst 1, 1) := dk_4 (dk_at dksX6_doCommit_5 10 rfl rfl)
theorem dX6_doCommit_128 : decode cX6_doCommit 128 = .ok (.iadd, 1) := dk_96 (dk_at dksX6_doCommit_5 11 rfl rfl)
theorem dX6_doCommit_129 : decode cX6_doCommit 129 = .ok (.iload_n 1, 1) := dk_27 (dk_at dksX6_doCommit_5 12 rfl rfl)
theorem dX6_doCommit_130 : decode cX6_doCommit 130 = .ok (.iconst 2, 1) := dk_5 (dk_at dksX6_doCommit_5 13 rfl rfl)
theorem dX6_doCommit_131 : decode cX6_doCommit 131 = .ok (.if_icmp .ge 14, 3) := dk_162 0 14 (dk_at dksX6_doCommit_5 14 rfl rfl)
theorem dX6_doCommit_134 : decode cX6_doCommit 134 = .ok (.aload_n 0, 1) := dk_42 (dk_at dksX6_doCommit_5 17 rfl rfl)
theorem dX6_doCommit_135 : decode cX6_doCommit 135 = .ok (.getfield 7, 3) := dk_180 0 7 (dk_at dksX6_doCommit_5 18 rfl rfl)
theorem dX6_doCommit_138 : decode cX6_doCommit 138 = .ok (.iload_n 3, 1) := dk_29 (dk_at dksX6_doCommit_5 21 rfl rfl)
theorem dX6_doCommit_139 : decode cX6_doCommit 139 = .ok (.iconst 1, 1) := dk_4 (dk_at dksX6_doCommit_5 22 rfl rfl)
theorem dX6_doCommit_140 : decode cX6_doCommit 140 = .ok (.iadd, 1) := dk_96 (dk_at dksX6_doCommit_5 23 rfl rfl)
theorem dX6_doCommit_141 : decode cX6_doCommit 141 = .ok (.iaload, 1) := dk_46 (dk_at dksX6_doCommit_6 0 rfl rfl)
theorem dX6_doCommit_142 : decode cX6_doCommit 142 = .ok (.goto 11, 3) := dk_167 0 11 (dk_at dksX6_doCommit_6 1 rfl rfl)
theorem dX6_doCommit_145 : decode cX6_doCommit 145 = .ok (.aload_n 0, 1) := dk_42 (dk_at dksX6_doCommit_6 4 rfl rfl)
theorem dX6_doCommit_146 : decode cX6_doCommit 146 = .ok (.getfield 7, 3) := dk_180 0 7 (dk_at dksX6_doCommit_6 5 rfl rfl)
theorem dX6_doCommit_149 : decode cX6_doCommit 149 = .ok (.sipush 467, 3) := dk_17 1 211 (dk_at dksX6_doCommit_6 8 rfl rfl)
theorem dX6_doCommit_152 : decode cX6_doCommit 152 = .ok (.iaload, 1) := dk_46 (dk_at dksX6_doCommit_6 11 rfl rfl)
theorem dX6_doCommit_153 : decode cX6_doCommit 153 = .ok (.iastore, 1) := dk_79 (dk_at dksX6_doCommit_6 12 rfl rfl)
theorem dX6_doCommit_154 : decode cX6_doCommit 154 = .ok (.iload_n 1, 1) := dk_27 (dk_at dksX6_doCommit_6 13 rfl rfl)
theorem dX6_doCommit_155 : decode cX6_doCommit 155 = .ok (.iconst 3, 1) := dk_6 (dk_at dksX6_doCommit_6 14 rfl rfl)
theorem dX6_doCommit_156 : decode cX6_doCommit 156 = .ok (.if_icmp .ge 25, 3) := dk_162 0 25 (dk_at dksX6_doCommit_6 15 rfl rfl)
theorem dX6_doCommit_159 : decode cX6_doCommit 159 = .ok (.aload_n 0, 1) := dk_42 (dk_at dksX6_doCommit_6 18 rfl rfl)
theorem dX6_doCommit_160 : decode cX6_doCommit 160 = .ok (.invokevirtual 157, 3) := dk_182 0 157 (dk_at dksX6_doCommit_6 19 rfl rfl)
theorem dX6_doCommit_163 : decode cX6_doCommit 163 = .ok (.istore 4, 2) := dk_54 4 (dk_at dksX6_doCommit_6 22 rfl rfl)
theorem dX6_doCommit_165 : decode cX6_doCommit 165 = .ok (.aload_n 0, 1) := dk_42 (dk_at dksX6_doCommit_7 0 rfl rfl)
theorem dX6_doCommit_166 : decode cX6_doCommit 166 = .ok (.getfield 7, 3) := dk_180 0 7 (dk_at dksX6_doCommit_7 1 rfl rfl)
theorem dX6_doCommit_169 : decode cX6_doCommit 169 = .ok (.sipush 469, 3) := dk_17 1 213 (dk_at dksX6_doCommit_7 4 rfl rfl)
theorem dX6_doCommit_172 : decode cX6_doCommit 172 = .ok (.dup2, 1) := dk_92 (dk_at dksX6_doCommit_7 7 rfl rfl)
theorem dX6_doCommit_173 : decode cX6_doCommit 173 = .ok (.iaload, 1) := dk_46 (dk_at dksX6_doCommit_7 8 rfl rfl)
theorem dX6_doCommit_174 : decode cX6_doCommit 174 = .ok (.iconst 1, 1) := dk_4 (dk_at dksX6_doCommit_7 9 rfl rfl)
theorem dX6_doCommit_175 : decode cX6_doCommit 175 = .ok (.iadd, 1) := dk_96 (dk_at dksX6_doCommit_7 10 rfl rfl)
theorem dX6_doCommit_176 : decode cX6_doCommit 176 = .ok (.iastore, 1) := dk_79 (dk_at dksX6_doCommit_7 11 rfl rfl)
theorem dX6_doCommit_177 : decode cX6_doCommit 177 = .ok (.sipush (-1000), 3) := dk_17 252 24 (dk_at dksX6_doCommit_7 12 rfl rfl)
theorem dX6_doCommit_180 : decode cX6_doCommit 180 = .ok (.ireturn, 1) := dk_172 (dk_at dksX6_doCommit_7 15 rfl rfl)
theorem dX6_doCommit_181 : decode cX6_doCommit 181 = .ok (.aload_n 0, 1) := dk_42 (dk_at dksX6_doCommit_7 16 rfl rfl)
theorem dX6_doCommit_182 : decode cX6_doCommit 182 = .ok (.getfield 7, 3) := dk_180 0 7 (dk_at dksX6_doCommit_7 17 rfl rfl)
theorem dX6_doCommit_185 : decode cX6_doCommit 185 = .ok (.iload_n 3, 1) := dk_29 (dk_at dksX6_doCommit_7 20 rfl rfl)
theorem dX6_doCommit_186 : decode cX6_doCommit 186 = .ok (.iconst 2, 1) := dk_5 (dk_at dksX6_doCommit_7 21 rfl rfl)
theorem dX6_doCommit_187 : decode cX6_doCommit 187 = .ok (.iadd, 1) := dk_96 (dk_at dksX6_doCommit_7 22 rfl rfl)
theorem dX6_doCommit_188 : decode cX6_doCommit 188 = .ok (.iconst 1, 1) := dk_4 (dk_at dksX6_doCommit_7 23 rfl rfl)
theorem dX6_doCommit_189 : decode cX6_doCommit 189 = .ok (.iastore, 1) := dk_79 (dk_at dksX6_doCommit_8 0 rfl rfl)
theorem dX6_doCommit_190 : decode cX6_doCommit 190 = .ok (.aload_n 0, 1) := dk_42 (dk_at dksX6_doCommit_8 1 rfl rfl)
theorem dX6_doCommit_191 : decode cX6_doCommit 191 = .ok (.getfield 7, 3) := dk_180 0 7 (dk_at dksX6_doCommit_8 2 rfl rfl)
theorem dX6_doCommit_194 : decode cX6_doCommit 194 = .ok (.sipush 468, 3) := dk_17 1 212 (dk_at dksX6_doCommit_8 5 rfl rfl)
theorem dX6_doCommit_197 : decode cX6_doCommit 197 = .ok (.dup2, 1) := dk_92 (dk_at dksX6_doCommit_8 8 rfl rfl)
theorem dX6_doCommit_198 : decode cX6_doCommit 198 = .ok (.iaload, 1) := dk_46 (dk_at dksX6_doCommit_8 9 rfl rfl)
theorem dX6_doCommit_199 : decode cX6_doCommit 199 = .ok (.iconst 1, 1) := dk_4 (dk_at dksX6_doCommit_8 10 rfl rfl)
theorem dX6_doCommit_200 : decode cX6_doCommit 200 = .ok (.iadd, 1) := dk_96 (dk_at dksX6_doCommit_8 11 rfl rfl)
theorem dX6_doCommit_201 : decode cX6_doCommit 201 = .ok (.iastore, 1) := dk_79 (dk_at dksX6_doCommit_8 12 rfl rfl)
theorem dX6_doCommit_202 : decode cX6_doCommit 202 = .ok (.aload_n 0, 1) := dk_42 (dk_at dksX6_doCommit_8 13 rfl rfl)
theorem dX6_doCommit_203 : decode cX6_doCommit 203 = .ok (.iload_n 2, 1) := dk_28 (dk_at dksX6_doCommit_8 14 rfl rfl)
theorem dX6_doCommit_204 : decode cX6_doCommit 204 = .ok (.invokevirtual 160, 3) := dk_182 0 160 (dk_at dksX6_doCommit_8 15 rfl rfl)
theorem dX6_doCommit_207 : decode cX6_doCommit 207 = .ok (.ireturn, 1) := dk_172 (dk_at dksX6_doCommit_8 18 rfl rfl)
/-! PageGardenModel.doCommit(I)I -/
abbrev M_X6_doCommit (z0 n0 : Nat) (s' : gS) : gM := (RX6, cX6_doCommit, 5, (some FieldType.int), "doCommit", [], 4, z0, n0, s'.2.1, s'.2.2)
abbrev W_X6_doCommit (E : gE) (z0 n0 : Nat) (r : Int32) (s' : gS) (pc : Nat) (L : List (Nat × gV)) (st : List gV) (s : gS) : Prop := gW E (M_X6_doCommit z0 n0 s') (gQm E (M_X6_doCommit z0 n0 s') (.inl (some (vI r))) s') pc L st s
noncomputable def f_X6_doCommit_153 (κ : gK) (F : Nat)  (l0 : Option Nat) (l1 : Int32) (l2 : Int32) (l3 : Int32) (t0 : Option Nat) (t1 : Int32) (t2 : Int32) (s : gS) : Option (Int32 × gS) :=
  gB1 (gsI κ s t0 t1 t2) fun s1 =>
  if (3 : Int32) ≤ l1 then
    gB1 (gfR s1 l0 9 0) fun v2 =>
    gB1 (gsI κ s1 v2 (l3 + (2 : Int32)) (1 : Int32)) fun s3 =>
    gB1 (gfR s3 l0 9 0) fun v4 =>
    gB1 (gaI s3 v4 0 (468 : Int32)) fun v5 =>
    gB1 (gsI κ s3 v4 (468 : Int32) (v5 + (1 : Int32))) fun s6 =>
    gB1 (gck s6 l0 9) fun _ =>
    gB2 (f_X6_frees κ F l0 l2 s6) fun v8 s7 =>
    some (v8, s7)
  else
    gB1 (gck s1 l0 9) fun _ =>
    gB2 (f_X6_drops κ F l0  s1) fun v11 s10 =>
    gB1 (gfR s10 l0 9 0) fun v13 =>
    gB1 (gaI s10 v13 0 (469 : Int32)) fun v14 =>
    gB1 (gsI κ s10 v13 (469 : Int32) (v14 + (1 : Int32))) fun s15 =>
    some ((-1000 : Int32), s15)
set_option maxHeartbeats 4000000 in
theorem w_X6_doCommit_153 {E : gE} {F z0 n0 : Nat} {r : Int32} {s' : gS}   : ∀ (l0 : Option Nat) (l1 : Int32) (l2 : Int32) (l3 : Int32) (t0 : Option Nat) (t1 : Int32) (t2 : Int32) (s : gS), f_X6_doCommit_153 (gk E) F  l0 l1 l2 l3 t0 t1 t2 s = some (r, s') → W_X6_doCommit E z0 n0 r s' 153 [(0, vR l0), (1, vI l1), (2, vI l2), (3, vI l3)] [vI t2, vI t1, vR t0] s := by
  intro l0 l1 l2 l3 t0 t1 t2 s hB
  unfold f_X6_doCommit_153 at hB
  obtain ⟨s1, hs1, hB⟩ := gB1_some hB
  refine gw_iastore hs1 dX6_doCommit_153 ?_
  refine gw_iload_n 1 rfl dX6_doCommit_154 ?_
  refine gw_iconst (v := (3 : Int32)) (by decide) dX6_doCommit_155 ?_
  refine gw_icmp_ge (tgt := 181) dX6_doCommit_156 (by decide) (fun hcnd => ?_) (fun hcnd => ?_)
  · rw [if_pos hcnd] at hB
    refine gw_aload_n 0 rfl dX6_doCommit_181 ?_
    obtain ⟨v2, hv2, hB⟩ := gB1_some hB
    refine gw_getf (C := RX6) (T := TX6) (N := 13) (k := 0) gcl9 (by decide) in_X6 q2694 (gfR_spec hv2) dX6_doCommit_182 ?_
    refine gw_iload_n 3 rfl dX6_doCommit_185 ?_
    refine gw_iconst (v := (2 : Int32)) (by decide) dX6_doCommit_186 ?_
    refine gw_iadd dX6_doCommit_187 ?_
    refine gw_iconst (v := (1 : Int32)) (by decide) dX6_doCommit_188 ?_
    obtain ⟨s3, hs3, hB⟩ := gB1_some hB
    refine gw_iastore hs3 dX6_doCommit_189 ?_
    refine gw_aload_n 0 rfl dX6_doCommit_190 ?_
    obtain ⟨v4, hv4, hB⟩ := gB1_some hB
    refine gw_getf (C := RX6) (T := TX6) (N := 13) (k := 0) gcl9 (by decide) in_X6 q2694 (gfR_spec hv4) dX6_doCommit_191 ?_
    refine gw_sipush (v := (468 : Int32)) (by decide) dX6_doCommit_194 ?_
    refine gw_dup2_11 rfl rfl dX6_doCommit_197 ?_
    obtain ⟨v5, hv5, hB⟩ := gB1_some hB
    refine gw_iaload hv5 dX6_doCommit_198 ?_
    refine gw_iconst (v := (1 : Int32)) (by decide) dX6_doCommit_199 ?_
    refine gw_iadd dX6_doCommit_200 ?_
    obtain ⟨s6, hs6, hB⟩ := gB1_some hB
    refine gw_iastore hs6 dX6_doCommit_201 ?_
    refine gw_aload_n 0 rfl dX6_doCommit_202 ?_
    refine gw_iload_n 2 rfl dX6_doCommit_203 ?_
    obtain ⟨u0, hu9, hB⟩ := gB1_some hB
    obtain ⟨v8, s7, hv8, hB⟩ := gB2_some hB
    refine gw_callV (y := yX6_frees) (lw_V q2904 q2906 qs83 q143 q2907) hdV_X6_frees gcl9 hu9 (As := [vI l2]) (rest := []) (m_X6_frees _ _ _ _ _ hv8) (Nat.le_of_ble_eq_true rfl) (Nat.le_of_ble_eq_true rfl) rfl (Nat.le_of_ble_eq_true rfl) dX6_doCommit_204 (gCont_i ?_)
    obtain ⟨rfl, rfl⟩ := Prod.mk.inj (Option.some.inj hB)
    exact gw_iret rfl rfl rfl dX6_doCommit_207
  · rw [if_neg hcnd] at hB
    refine gw_aload_n 0 rfl dX6_doCommit_159 ?_
    obtain ⟨u0, hu12, hB⟩ := gB1_some hB
    obtain ⟨v11, s10, hv11, hB⟩ := gB2_some hB
    refine gw_callV (y := yX6_drops) (lw_V q2900 q2902 qs82 q143 q2903) hdV_X6_drops gcl9 hu12 (As := []) (rest := []) (m_X6_drops _ _ _ _ hv11) (Nat.le_of_ble_eq_true rfl) (Nat.le_of_ble_eq_true rfl) rfl (Nat.le_of_ble_eq_true rfl) dX6_doCommit_160 (gCont_i ?_)
    refine gw_istore (L' := [(4, vI v11), (0, vR l0), (1, vI l1), (2, vI l2), (3, vI l3)]) (Nat.le_of_ble_eq_true rfl) rfl dX6_doCommit_163 ?_
    refine gw_aload_n 1 rfl dX6_doCommit_165 ?_
    obtain ⟨v13, hv13, hB⟩ := gB1_some hB
    refine gw_getf (C := RX6) (T := TX6) (N := 13) (k := 0) gcl9 (by decide) in_X6 q2694 (gfR_spec hv13) dX6_doCommit_166 ?_
    refine gw_sipush (v := (469 : Int32)) (by decide) dX6_doCommit_169 ?_
    refine gw_dup2_11 rfl rfl dX6_doCommit_172 ?_
    obtain ⟨v14, hv14, hB⟩ := gB1_some hB
    refine gw_iaload hv14 dX6_doCommit_173 ?_
    refine gw_iconst (v := (1 : Int32)) (by decide) dX6_doCommit_174 ?_
    refine gw_iadd dX6_doCommit_175 ?_
    obtain ⟨s15, hs15, hB⟩ := gB1_some hB
    refine gw_iastore hs15 dX6_doCommit_176 ?_
    refine gw_sipush (v := (-1000 : Int32)) (by decide) dX6_doCommit_177 ?_
    obtain ⟨rfl, rfl⟩ := Prod.mk.inj (Option.some.inj hB)
    exact gw_iret rfl rfl rfl dX6_doCommit_180
noncomputable def f_X6_doCommit_121 (κ : gK) (F : Nat)  (l0 : Option Nat) (l1 : Int32) (l2 : Int32) (l3 : Int32) (t0 : Option Nat) (t1 : Int32) (t2 : Int32) (s : gS) : Option (Int32 × gS) :=
  gB1 (gsI κ s t0 t1 t2) fun s1 =>
  gB1 (gfR s1 l0 9 0) fun v2 =>
  if (2 : Int32) ≤ l1 then
    gB1 (gfR s1 l0 9 0) fun v3 =>
    gB1 (gaI s1 v3 0 (467 : Int32)) fun v4 =>
    f_X6_doCommit_153 κ F  l0 l1 l2 l3 v2 (l3 + (1 : Int32)) v4 s1
  else
    gB1 (gfR s1 l0 9 0) fun v5 =>
    gB1 (gaI s1 v5 0 (l3 + (1 : Int32))) fun v6 =>
    f_X6_doCommit_153 κ F  l0 l1 l2 l3 v2 (l3 + (1 : Int32)) v6 s1
set_option maxHeartbeats 4000000 in
theorem w_X6_doCommit_121 {E : gE} {F z0 n0 : Nat} {r : Int32} {s' : gS}   : ∀ (l0 : Option Nat) (l1 : Int32) (l2 : Int32) (l3 : Int32) (t0 : Option Nat) (t1 : Int32) (t2 : Int32) (s : gS), f_X6_doCommit_121 (gk E) F  l0 l1 l2 l3 t0 t1 t2 s = some (r, s') → W_X6_doCommit E z0 n0 r s' 121 [(0, vR l0), (1, vI l1), (2, vI l2), (3, vI l3)] [vI t2, vI t1, vR t0] s := by
  intro l0 l1 l2 l3 t0 t1 t2 s hB
  unfold f_X6_doCommit_121 at hB
  obtain ⟨s1, hs1, hB⟩ := gB1_some hB
  refine gw_iastore hs1 dX6_doCommit_121 ?_
  refine gw_aload_n 0 rfl dX6_doCommit_122 ?_
  obtain ⟨v2, hv2, hB⟩ := gB1_some hB
  refine gw_getf (C := RX6) (T := TX6) (N := 13) (k := 0) gcl9 (by decide) in_X6 q2694 (gfR_spec hv2) dX6_doCommit_123 ?_
  refine gw_iload_n 3 rfl dX6_doCommit_126 ?_
  refine gw_iconst (v := (1 : Int32)) (by decide) dX6_doCommit_127 ?_
  refine gw_iadd dX6_doCommit_128 ?_
  refine gw_iload_n 1 rfl dX6_doCommit_129 ?_
  refine gw_iconst (v := (2 : Int32)) (by decide) dX6_doCommit_130 ?_
  refine gw_icmp_ge (tgt := 145) dX6_doCommit_131 (by decide) (fun hcnd => ?_) (fun hcnd => ?_)
  · rw [if_pos hcnd] at hB
    refine gw_aload_n 0 rfl dX6_doCommit_145 ?_
    obtain ⟨v3, hv3, hB⟩ := gB1_some hB
    refine gw_getf (C := RX6) (T := TX6) (N := 13) (k := 0) gcl9 (by decide) in_X6 q2694 (gfR_spec hv3) dX6_doCommit_146 ?_
    refine gw_sipush (v := (467 : Int32)) (by decide) dX6_doCommit_149 ?_
    obtain ⟨v4, hv4, hB⟩ := gB1_some hB
    refine gw_iaload hv4 dX6_doCommit_152 ?_
    exact gw_sub [0, 1, 2, 3] rfl (w_X6_doCommit_153  _ _ _ _ _ _ _ _ hB)
  · rw [if_neg hcnd] at hB
    refine gw_aload_n 0 rfl dX6_doCommit_134 ?_
    obtain ⟨v5, hv5, hB⟩ := gB1_some hB
    refine gw_getf (C := RX6) (T := TX6) (N := 13) (k := 0) gcl9 (by decide) in_X6 q2694 (gfR_spec hv5) dX6_doCommit_135 ?_
    refine gw_iload_n 3 rfl dX6_doCommit_138 ?_
    refine gw_iconst (v := (1 : Int32)) (by decide) dX6_doCommit_139 ?_
    refine gw_iadd dX6_doCommit_140 ?_
    obtain ⟨v6, hv6, hB⟩ := gB1_some hB
    refine gw_iaload hv6 dX6_doCommit_141 ?_
    refine gw_goto (tgt := 153) dX6_doCommit_142 (by decide) ?_
    exact gw_sub [0, 1, 2, 3] rfl (w_X6_doCommit_153  _ _ _ _ _ _ _ _ hB)
noncomputable def f_X6_doCommit_96 (κ : gK) (F : Nat)  (l0 : Option Nat) (l1 : Int32) (l2 : Int32) (l3 : Int32) (t0 : Option Nat) (t1 : Int32) (t2 : Int32) (s : gS) : Option (Int32 × gS) :=
  gB1 (gsI κ s t0 t1 t2) fun s1 =>
  gB1 (gfR s1 l0 9 0) fun v2 =>
  if (2 : Int32) ≤ l1 then
    f_X6_doCommit_121 κ F  l0 l1 l2 l3 v2 (l3 + (0 : Int32)) l2 s1
  else
    gB1 (gfR s1 l0 9 0) fun v3 =>
    gB1 (gaI s1 v3 0 (l3 + (0 : Int32))) fun v4 =>
    f_X6_doCommit_121 κ F  l0 l1 l2 l3 v2 (l3 + (0 : Int32)) v4 s1
set_option maxHeartbeats 4000000 in
theorem w_X6_doCommit_96 {E : gE} {F z0 n0 : Nat} {r : Int32} {s' : gS}   : ∀ (l0 : Option Nat) (l1 : Int32) (l2 : Int32) (l3 : Int32) (t0 : Option Nat) (t1 : Int32) (t2 : Int32) (s : gS), f_X6_doCommit_96 (gk E) F  l0 l1 l2 l3 t0 t1 t2 s = some (r, s') → W_X6_doCommit E z0 n0 r s' 96 [(0, vR l0), (1, vI l1), (2, vI l2), (3, vI l3)] [vI t2, vI t1, vR t0] s := by
  intro l0 l1 l2 l3 t0 t1 t2 s hB
  unfold f_X6_doCommit_96 at hB
  obtain ⟨s1, hs1, hB⟩ := gB1_some hB
  refine gw_iastore hs1 dX6_doCommit_96 ?_
  refine gw_aload_n 0 rfl dX6_doCommit_97 ?_
  obtain ⟨v2, hv2, hB⟩ := gB1_some hB
  refine gw_getf (C := RX6) (T := TX6) (N := 13) (k := 0) gcl9 (by decide) in_X6 q2694 (gfR_spec hv2) dX6_doCommit_98 ?_
  refine gw_iload_n 3 rfl dX6_doCommit_101 ?_
  refine gw_iconst (v := (0 : Int32)) (by decide) dX6_doCommit_102 ?_
  refine gw_iadd dX6_doCommit_103 ?_
  refine gw_iload_n 1 rfl dX6_doCommit_104 ?_
  refine gw_iconst (v := (2 : Int32)) (by decide) dX6_doCommit_105 ?_
  refine gw_icmp_ge (tgt := 120) dX6_doCommit_106 (by decide) (fun hcnd => ?_) (fun hcnd => ?_)
  · rw [if_pos hcnd] at hB
    refine gw_iload_n 2 rfl dX6_doCommit_120 ?_
    exact gw_sub [0, 1, 2, 3] rfl (w_X6_doCommit_121  _ _ _ _ _ _ _ _ hB)
  · rw [if_neg hcnd] at hB
    refine gw_aload_n 0 rfl dX6_doCommit_109 ?_
    obtain ⟨v3, hv3, hB⟩ := gB1_some hB
    refine gw_getf (C := RX6) (T := TX6) (N := 13) (k := 0) gcl9 (by decide) in_X6 q2694 (gfR_spec hv3) dX6_doCommit_110 ?_
    refine gw_iload_n 3 rfl dX6_doCommit_113 ?_
    refine gw_iconst (v := (0 : Int32)) (by decide) dX6_doCommit_114 ?_
    refine gw_iadd dX6_doCommit_115 ?_
    obtain ⟨v4, hv4, hB⟩ := gB1_some hB
    refine gw_iaload hv4 dX6_doCommit_116 ?_
    refine gw_goto (tgt := 121) dX6_doCommit_117 (by decide) ?_
    exact gw_sub [0, 1, 2, 3] rfl (w_X6_doCommit_121  _ _ _ _ _ _ _ _ hB)
noncomputable def f_X6_doCommit_0 (κ : gK) (F : Nat)  (l0 : Option Nat) (l1 : Int32) (s : gS) : Option (Int32 × gS) :=
  gB2 (f_X6_in κ F l1 (0 : Int32) (3 : Int32) s) fun v2 s1 =>
  if v2 = 0 then
    gB1 (gck s1 l0 9) fun _ =>
    gB2 (f_X6_refuse κ F l0 (1 : Int32) s1) fun v26 s25 =>
    some (v26, s25)
  else
    gB1 (gfR s1 l0 9 0) fun v3 =>
    gB1 (gaI s1 v3 0 (466 : Int32)) fun v4 =>
    if v4 = 0 then
      gB1 (gck s1 l0 9) fun _ =>
      gB2 (f_X6_refuse κ F l0 (2 : Int32) s1) fun v23 s22 =>
      some (v23, s22)
    else
      gB1 (gfR s1 l0 9 0) fun v5 =>
      gB1 (gaI s1 v5 0 (467 : Int32)) fun v6 =>
      if 0 ≤ v6 then
        gB1 (gck s1 l0 9) fun _ =>
        gB2 (f_X6_current κ F l0  s1) fun v8 s7 =>
        gB1 (gck s7 l0 9) fun _ =>
        gB2 (f_X6_ofRoot κ F l0 v8 (0 : Int32) s7) fun v11 s10 =>
        gB1 (gck s10 l0 9) fun _ =>
        gB2 (f_X6_current κ F l0  s10) fun v14 s13 =>
        gB1 (gfR s13 l0 9 0) fun v16 =>
        if l1 = 0 then
          gB1 (gfR s13 l0 9 0) fun v17 =>
          gB1 (gaI s13 v17 0 (((448 : Int32) + ((3 : Int32) * ((1 : Int32) - v14))) + (2 : Int32))) fun v18 =>
          f_X6_doCommit_96 κ F  l0 l1 (v11 + (1 : Int32)) ((448 : Int32) + ((3 : Int32) * ((1 : Int32) - v14))) v16 (((448 : Int32) + ((3 : Int32) * ((1 : Int32) - v14))) + (2 : Int32)) v18 s13
        else
          f_X6_doCommit_96 κ F  l0 l1 (v11 + (1 : Int32)) ((448 : Int32) + ((3 : Int32) * ((1 : Int32) - v14))) v16 (((448 : Int32) + ((3 : Int32) * ((1 : Int32) - v14))) + (2 : Int32)) (0 : Int32) s13
      else
        gB1 (gck s1 l0 9) fun _ =>
        gB2 (f_X6_drops κ F l0  s1) fun v20 s19 =>
        some (v20, s19)
set_option maxHeartbeats 4000000 in
theorem w_X6_doCommit_0 {E : gE} {F z0 n0 : Nat} {r : Int32} {s' : gS}   : ∀ (l0 : Option Nat) (l1 : Int32)  (s : gS), f_X6_doCommit_0 (gk E) F  l0 l1 s = some (r, s') → W_X6_doCommit E z0 n0 r s' 0 [(0, vR l0), (1, vI l1)] [] s := by
  intro l0 l1 s hB
  unfold f_X6_doCommit_0 at hB
  refine gw_iload_n 1 rfl dX6_doCommit_0 ?_
  refine gw_iconst (v := (0 : Int32)) (by decide) dX6_doCommit_1 ?_
  refine gw_iconst (v := (3 : Int32)) (by decide) dX6_doCommit_2 ?_
  obtain ⟨v2, s1, hv2, hB⟩ := gB2_some hB
  refine gw_callS (y := yX6_in) (lw_S q2777 q2778 q143 q2779) hdS_X6_in (As := [vI l1, vI (0 : Int32), vI (3 : Int32)]) (rest := []) (m_X6_in _ _ _ _ _ _ hv2) (Nat.le_of_ble_eq_true rfl) (Nat.le_of_ble_eq_true rfl) rfl (Nat.le_of_ble_eq_true rfl) dX6_doCommit_3 (gCont_i ?_)
  refine gw_if_ne (tgt := 15) dX6_doCommit_6 (by decide) (fun hcnd => ?_) (fun hcnd => ?_)
  · rw [if_neg hcnd] at hB
    refine gw_aload_n 0 rfl dX6_doCommit_15 ?_
    obtain ⟨v3, hv3, hB⟩ := gB1_some hB
    refine gw_getf (C := RX6) (T := TX6) (N := 13) (k := 0) gcl9 (by decide) in_X6 q2694 (gfR_spec hv3) dX6_doCommit_16 ?_
    refine gw_sipush (v := (466 : Int32)) (by decide) dX6_doCommit_19 ?_
    obtain ⟨v4, hv4, hB⟩ := gB1_some hB
    refine gw_iaload hv4 dX6_doCommit_22 ?_
    refine gw_if_ne (tgt := 32) dX6_doCommit_23 (by decide) (fun hcnd => ?_) (fun hcnd => ?_)
    · rw [if_neg hcnd] at hB
      refine gw_aload_n 0 rfl dX6_doCommit_32 ?_
      obtain ⟨v5, hv5, hB⟩ := gB1_some hB
      refine gw_getf (C := RX6) (T := TX6) (N := 13) (k := 0) gcl9 (by decide) in_X6 q2694 (gfR_spec hv5) dX6_doCommit_33 ?_
      refine gw_sipush (v := (467 : Int32)) (by decide) dX6_doCommit_36 ?_
      obtain ⟨v6, hv6, hB⟩ := gB1_some hB
      refine gw_iaload hv6 dX6_doCommit_39 ?_
      refine gw_if_ge (tgt := 48) dX6_doCommit_40 (by decide) (fun hcnd => ?_) (fun hcnd => ?_)
      · rw [if_pos hcnd] at hB
        refine gw_aload_n 0 rfl dX6_doCommit_48 ?_
        refine gw_aload_n 0 rfl dX6_doCommit_49 ?_
        obtain ⟨u0, hu9, hB⟩ := gB1_some hB
        obtain ⟨v8, s7, hv8, hB⟩ := gB2_some hB
        refine gw_callV (y := yX6_current) (lw_V q2757 q2759 qs50 q143 q2760) hdV_X6_current gcl9 hu9 (As := []) (rest := [vR l0]) (m_X6_current _ _ _ _ hv8) (Nat.le_of_ble_eq_true rfl) (Nat.le_of_ble_eq_true rfl) rfl (Nat.le_of_ble_eq_true rfl) dX6_doCommit_50 (gCont_i ?_)
        refine gw_iconst (v := (0 : Int32)) (by decide) dX6_doCommit_53 ?_
        obtain ⟨u0, hu12, hB⟩ := gB1_some hB
        obtain ⟨v11, s10, hv11, hB⟩ := gB2_some hB
        refine gw_callV (y := yX6_ofRoot) (lw_V q2761 q2763 qs51 q143 q2764) hdV_X6_ofRoot gcl9 hu12 (As := [vI v8, vI (0 : Int32)]) (rest := []) (m_X6_ofRoot _ _ _ _ _ _ hv11) (Nat.le_of_ble_eq_true rfl) (Nat.le_of_ble_eq_true rfl) rfl (Nat.le_of_ble_eq_true rfl) dX6_doCommit_54 (gCont_i ?_)
        refine gw_iconst (v := (1 : Int32)) (by decide) dX6_doCommit_57 ?_
        refine gw_iadd dX6_doCommit_58 ?_
        refine gw_istore_n (L' := [(2, vI (v11 + (1 : Int32))), (0, vR l0), (1, vI l1)]) (Nat.le_of_ble_eq_true rfl) rfl dX6_doCommit_59 ?_
        refine gw_sipush (v := (448 : Int32)) (by decide) dX6_doCommit_60 ?_
        refine gw_iconst (v := (3 : Int32)) (by decide) dX6_doCommit_63 ?_
        refine gw_iconst (v := (1 : Int32)) (by decide) dX6_doCommit_64 ?_
        refine gw_aload_n 1 rfl dX6_doCommit_65 ?_
        obtain ⟨u0, hu15, hB⟩ := gB1_some hB
        obtain ⟨v14, s13, hv14, hB⟩ := gB2_some hB
        refine gw_callV (y := yX6_current) (lw_V q2757 q2759 qs50 q143 q2760) hdV_X6_current gcl9 hu15 (As := []) (rest := [vI (1 : Int32), vI (3 : Int32), vI (448 : Int32)]) (m_X6_current _ _ _ _ hv14) (Nat.le_of_ble_eq_true rfl) (Nat.le_of_ble_eq_true rfl) rfl (Nat.le_of_ble_eq_true rfl) dX6_doCommit_66 (gCont_i ?_)
        refine gw_isub dX6_doCommit_69 ?_
        refine gw_imul dX6_doCommit_70 ?_
        refine gw_iadd dX6_doCommit_71 ?_
        refine gw_istore_n (L' := [(3, vI ((448 : Int32) + ((3 : Int32) * ((1 : Int32) - v14)))), (2, vI (v11 + (1 : Int32))), (0, vR l0), (1, vI l1)]) (Nat.le_of_ble_eq_true rfl) rfl dX6_doCommit_72 ?_
        refine gw_aload_n 2 rfl dX6_doCommit_73 ?_
        obtain ⟨v16, hv16, hB⟩ := gB1_some hB
        refine gw_getf (C := RX6) (T := TX6) (N := 13) (k := 0) gcl9 (by decide) in_X6 q2694 (gfR_spec hv16) dX6_doCommit_74 ?_
        refine gw_iload_n 0 rfl dX6_doCommit_77 ?_
        refine gw_iconst (v := (2 : Int32)) (by decide) dX6_doCommit_78 ?_
        refine gw_iadd dX6_doCommit_79 ?_
        refine gw_iload_n 3 rfl dX6_doCommit_80 ?_
        refine gw_if_ne (tgt := 95) dX6_doCommit_81 (by decide) (fun hcnd => ?_) (fun hcnd => ?_)
        · rw [if_neg hcnd] at hB
          refine gw_iconst (v := (0 : Int32)) (by decide) dX6_doCommit_95 ?_
          exact gw_sub [2, 3, 1, 0] rfl (w_X6_doCommit_96  _ _ _ _ _ _ _ _ hB)
        · rw [if_pos hcnd] at hB
          refine gw_aload_n 2 rfl dX6_doCommit_84 ?_
          obtain ⟨v17, hv17, hB⟩ := gB1_some hB
          refine gw_getf (C := RX6) (T := TX6) (N := 13) (k := 0) gcl9 (by decide) in_X6 q2694 (gfR_spec hv17) dX6_doCommit_85 ?_
          refine gw_iload_n 0 rfl dX6_doCommit_88 ?_
          refine gw_iconst (v := (2 : Int32)) (by decide) dX6_doCommit_89 ?_
          refine gw_iadd dX6_doCommit_90 ?_
          obtain ⟨v18, hv18, hB⟩ := gB1_some hB
          refine gw_iaload hv18 dX6_doCommit_91 ?_
          refine gw_goto (tgt := 96) dX6_doCommit_92 (by decide) ?_
          exact gw_sub [2, 3, 1, 0] rfl (w_X6_doCommit_96  _ _ _ _ _ _ _ _ hB)
      · rw [if_neg hcnd] at hB
        refine gw_aload_n 0 rfl dX6_doCommit_43 ?_
        obtain ⟨u0, hu21, hB⟩ := gB1_some hB
        obtain ⟨v20, s19, hv20, hB⟩ := gB2_some hB
        refine gw_callV (y := yX6_drops) (lw_V q2900 q2902 qs82 q143 q2903) hdV_X6_drops gcl9 hu21 (As := []) (rest := []) (m_X6_drops _ _ _ _ hv20) (Nat.le_of_ble_eq_true rfl) (Nat.le_of_ble_eq_true rfl) rfl (Nat.le_of_ble_eq_true rfl) dX6_doCommit_44 (gCont_i ?_)
        obtain ⟨rfl, rfl⟩ := Prod.mk.inj (Option.some.inj hB)
        exact gw_iret rfl rfl rfl dX6_doCommit_47
    · rw [if_pos hcnd] at hB
      refine gw_aload_n 0 rfl dX6_doCommit_26 ?_
      refine gw_iconst (v := (2 : Int32)) (by decide) dX6_doCommit_27 ?_
      obtain ⟨u0, hu24, hB⟩ := gB1_some hB
      obtain ⟨v23, s22, hv23, hB⟩ := gB2_some hB
      refine gw_callV (y := yX6_refuse) (lw_V q2753 q2755 qs49 q143 q2756) hdV_X6_refuse gcl9 hu24 (As := [vI (2 : Int32)]) (rest := []) (m_X6_refuse _ _ _ _ _ hv23) (Nat.le_of_ble_eq_true rfl) (Nat.le_of_ble_eq_true rfl) rfl (Nat.le_of_ble_eq_true rfl) dX6_doCommit_28 (gCont_i ?_)
      obtain ⟨rfl, rfl⟩ := Prod.mk.inj (Option.some.inj hB)
      exact gw_iret rfl rfl rfl dX6_doCommit_31
  · rw [if_pos hcnd] at hB
    refine gw_aload_n 0 rfl dX6_doCommit_9 ?_
    refine gw_iconst (v := (1 : Int32)) (by decide) dX6_doCommit_10 ?_
    obtain ⟨u0, hu27, hB⟩ := gB1_some hB
    obtain ⟨v26, s25, hv26, hB⟩ := gB2_some hB
    refine gw_callV (y := yX6_refuse) (lw_V q2753 q2755 qs49 q143 q2756) hdV_X6_refuse gcl9 hu27 (As := [vI (1 : Int32)]) (rest := []) (m_X6_refuse _ _ _ _ _ hv26) (Nat.le_of_ble_eq_true rfl) (Nat.le_of_ble_eq_true rfl) rfl (Nat.le_of_ble_eq_true rfl) dX6_doCommit_11 (gCont_i ?_)
    obtain ⟨rfl, rfl⟩ := Prod.mk.inj (Option.some.inj hB)
    exact gw_iret rfl rfl rfl dX6_doCommit_14
noncomputable def f_X6_doCommit (κ : gK) (F : Nat) (a0 : Option Nat) (a1 : Int32) (s : gS) : Option (Int32 × gS) := f_X6_doCommit_0 κ F a0 a1 s
theorem m_X6_doCommit {E : gE} {F : Nat} (a0 : Option Nat) (a1 : Int32) (s : gS) (r : Int32) (s' : gS) (h : f_X6_doCommit (gk E) F a0 a1 s = some (r, s')) : gCT E 4 yX6_doCommit (ws_ yX6_doCommit cX6_doCommit 5 (some FieldType.int)) [vR a0, vI a1] s (.inl (some (vI r))) s' := by
  refine gCT_of2 (fun h => absurd h (by decide)) (plainFor_of_name (by decide)) (Nat.le_of_ble_eq_true rfl) ?_
  exact gw_sub [0, 1] rfl (w_X6_doCommit_0 _ _ _ h)
def dkwX6_commit_0 : List UInt8 := [42, 182, 0, 142, 42, 42, 27, 182, 0, 163, 182, 0, 148, 172]
abbrev dktX6_commit_0 : List UInt8 := dkwX6_commit_0 ++ []
theorem dksX6_commit_0 : cX6_commit.data.toList.drop 0 = dktX6_commit_0 := by decide +kernel
theorem dX6_commit_0 : decode cX6_commit 0 = .ok (.aload_n 0, 1) := dk_42 (dk_at dksX6_commit_0 0 rfl rfl)
theorem dX6_commit_1 : decode cX6_commit 1 = .ok (.invokevirtual 142, 3) := dk_182 0 142 (dk_at dksX6_commit_0 1 rfl rfl)
theorem dX6_commit_4 : decode cX6_commit 4 = .ok (.aload_n 0, 1) := dk_42 (dk_at dksX6_commit_0 4 rfl rfl)
theorem dX6_commit_5 : decode cX6_commit 5 = .ok (.aload_n 0, 1) := dk_42 (dk_at dksX6_commit_0 5 rfl rfl)
theorem dX6_commit_6 : decode cX6_commit 6 = .ok (.iload_n 1, 1) := dk_27 (dk_at dksX6_commit_0 6 rfl rfl)
theorem dX6_commit_7 : decode cX6_commit 7 = .ok (.invokevirtual 163, 3) := dk_182 0 163 (dk_at dksX6_commit_0 7 rfl rfl)
theorem dX6_commit_10 : decode cX6_commit 10 = .ok (.invokevirtual 148, 3) := dk_182 0 148 (dk_at dksX6_commit_0 10 rfl rfl)
theorem dX6_commit_13 : decode cX6_commit 13 = .ok (.ireturn, 1) := dk_172 (dk_at dksX6_commit_0 13 rfl rfl)
/-! PageGardenModel.commit(I)I -/
abbrev M_X6_commit (z0 n0 : Nat) (s' : gS) : gM := (RX6, cX6_commit, 2, (some FieldType.int), "commit", [], 5, z0, n0, s'.2.1, s'.2.2)
abbrev W_X6_commit (E : gE) (z0 n0 : Nat) (r : Int32) (s' : gS) (pc : Nat) (L : List (Nat × gV)) (st : List gV) (s : gS) : Prop := gW E (M_X6_commit z0 n0 s') (gQm E (M_X6_commit z0 n0 s') (.inl (some (vI r))) s') pc L st s
noncomputable def f_X6_commit_0 (κ : gK) (F : Nat)  (l0 : Option Nat) (l1 : Int32) (s : gS) : Option (Int32 × gS) :=
  gB1 (gck s l0 9) fun _ =>
  gB2 (f_X6_hold κ F l0  s) fun v2 s1 =>
  gB1 (gck s1 l0 9) fun _ =>
  gB2 (f_X6_doCommit κ F l0 l1 s1) fun v5 s4 =>
  gB1 (gck s4 l0 9) fun _ =>
  gB2 (f_X6_ends κ F l0 v5 s4) fun v8 s7 =>
  some (v8, s7)
set_option maxHeartbeats 4000000 in
theorem w_X6_commit_0 {E : gE} {F z0 n0 : Nat} {r : Int32} {s' : gS}   : ∀ (l0 : Option Nat) (l1 : Int32)  (s : gS), f_X6_commit_0 (gk E) F  l0 l1 s = some (r, s') → W_X6_commit E z0 n0 r s' 0 [(0, vR l0), (1, vI l1)] [] s := by
  intro l0 l1 s hB
  unfold f_X6_commit_0 at hB
  refine gw_aload_n 0 rfl dX6_commit_0 ?_
  obtain ⟨u0, hu3, hB⟩ := gB1_some hB
  obtain ⟨v2, s1, hv2, hB⟩ := gB2_some hB
  refine gw_callV (y := yX6_hold) (lw_V q2742 q2744 qs47 q143 q2745) hdV_X6_hold gcl9 hu3 (As := []) (rest := []) (m_X6_hold _ _ _ _ hv2) (Nat.le_of_ble_eq_true rfl) (Nat.le_of_ble_eq_true rfl) rfl (Nat.le_of_ble_eq_true rfl) dX6_commit_1 (gCont_v ?_)
  refine gw_aload_n 0 rfl dX6_commit_4 ?_
  refine gw_aload_n 0 rfl dX6_commit_5 ?_
  refine gw_iload_n 1 rfl dX6_commit_6 ?_
  obtain ⟨u0, hu6, hB⟩ := gB1_some hB
  obtain ⟨v5, s4, hv5, hB⟩ := gB2_some hB
  refine gw_callV (y := yX6_doCommit) (lw_V q2896 q2898 qs81 q143 q2899) hdV_X6_doCommit gcl9 hu6 (As := [vI l1]) (rest := [vR l0]) (m_X6_doCommit _ _ _ _ _ hv5) (Nat.le_of_ble_eq_true rfl) (Nat.le_of_ble_eq_true rfl) rfl (Nat.le_of_ble_eq_true rfl) dX6_commit_7 (gCont_i ?_)
  obtain ⟨u0, hu9, hB⟩ := gB1_some hB
  obtain ⟨v8, s7, hv8, hB⟩ := gB2_some hB
  refine gw_callV (y := yX6_ends) (lw_V q2765 q2767 qs52 q143 q2768) hdV_X6_ends gcl9 hu9 (As := [vI v5]) (rest := []) (m_X6_ends _ _ _ _ _ hv8) (Nat.le_of_ble_eq_true rfl) (Nat.le_of_ble_eq_true rfl) rfl (Nat.le_of_ble_eq_true rfl) dX6_commit_10 (gCont_i ?_)
  obtain ⟨rfl, rfl⟩ := Prod.mk.inj (Option.some.inj hB)
  exact gw_iret rfl rfl rfl dX6_commit_13
noncomputable def f_X6_commit (κ : gK) (F : Nat) (a0 : Option Nat) (a1 : Int32) (s : gS) : Option (Int32 × gS) := f_X6_commit_0 κ F a0 a1 s
theorem m_X6_commit {E : gE} {F : Nat} (a0 : Option Nat) (a1 : Int32) (s : gS) (r : Int32) (s' : gS) (h : f_X6_commit (gk E) F a0 a1 s = some (r, s')) : gCT E 5 yX6_commit (ws_ yX6_commit cX6_commit 2 (some FieldType.int)) [vR a0, vI a1] s (.inl (some (vI r))) s' := by
  refine gCT_of2 (fun h => absurd h (by decide)) (plainFor_of_name (by decide)) (Nat.le_of_ble_eq_true rfl) ?_
  exact gw_sub [0, 1] rfl (w_X6_commit_0 _ _ _ h)
def dkwX6_doAbort_0 : List UInt8 := [42, 180, 0, 7, 17, 1, 210, 46, 154, 0, 11, 42, 4, 182, 0, 117, 167, 0, 7, 42, 182, 0, 157, 172]
abbrev dktX6_doAbort_0 : List UInt8 := dkwX6_doAbort_0 ++ []
theorem dksX6_doAbort_0 : cX6_doAbort.data.toList.drop 0 = dktX6_doAbort_0 := by decide +kernel
theorem dX6_doAbort_0 : decode cX6_doAbort 0 = .ok (.aload_n 0, 1) := dk_42 (dk_at dksX6_doAbort_0 0 rfl rfl)
theorem dX6_doAbort_1 : decode cX6_doAbort 1 = .ok (.getfield 7, 3) := dk_180 0 7 (dk_at dksX6_doAbort_0 1 rfl rfl)
theorem dX6_doAbort_4 : decode cX6_doAbort 4 = .ok (.sipush 466, 3) := dk_17 1 210 (dk_at dksX6_doAbort_0 4 rfl rfl)
theorem dX6_doAbort_7 : decode cX6_doAbort 7 = .ok (.iaload, 1) := dk_46 (dk_at dksX6_doAbort_0 7 rfl rfl)
theorem dX6_doAbort_8 : decode cX6_doAbort 8 = .ok (.ifCond .ne 11, 3) := dk_154 0 11 (dk_at dksX6_doAbort_0 8 rfl rfl)
theorem dX6_doAbort_11 : decode cX6_doAbort 11 = .ok (.aload_n 0, 1) := dk_42 (dk_at dksX6_doAbort_0 11 rfl rfl)
theorem dX6_doAbort_12 : decode cX6_doAbort 12 = .ok (.iconst 1, 1) := dk_4 (dk_at dksX6_doAbort_0 12 rfl rfl)
theorem dX6_doAbort_13 : decode cX6_doAbort 13 = .ok (.invokevirtual 117, 3) := dk_182 0 117 (dk_at dksX6_doAbort_0 13 rfl rfl)
theorem dX6_doAbort_16 : decode cX6_doAbort 16 = .ok (.goto 7, 3) := dk_167 0 7 (dk_at dksX6_doAbort_0 16 rfl rfl)
theorem dX6_doAbort_19 : decode cX6_doAbort 19 = .ok (.aload_n 0, 1) := dk_42 (dk_at dksX6_doAbort_0 19 rfl rfl)
theorem dX6_doAbort_20 : decode cX6_doAbort 20 = .ok (.invokevirtual 157, 3) := dk_182 0 157 (dk_at dksX6_doAbort_0 20 rfl rfl)
theorem dX6_doAbort_23 : decode cX6_doAbort 23 = .ok (.ireturn, 1) := dk_172 (dk_at dksX6_doAbort_0 23 rfl rfl)
/-! PageGardenModel.doAbort()I -/
abbrev M_X6_doAbort (z0 n0 : Nat) (s' : gS) : gM := (RX6, cX6_doAbort, 1, (some FieldType.int), "doAbort", [], 4, z0, n0, s'.2.1, s'.2.2)
abbrev W_X6_doAbort (E : gE) (z0 n0 : Nat) (r : Int32) (s' : gS) (pc : Nat) (L : List (Nat × gV)) (st : List gV) (s : gS) : Prop := gW E (M_X6_doAbort z0 n0 s') (gQm E (M_X6_doAbort z0 n0 s') (.inl (some (vI r))) s') pc L st s
noncomputable def f_X6_doAbort_23 (κ : gK) (F : Nat)  (t0 : Int32) (s : gS) : Option (Int32 × gS) :=
  some (t0, s)
set_option maxHeartbeats 4000000 in
theorem w_X6_doAbort_23 {E : gE} {F z0 n0 : Nat} {r : Int32} {s' : gS}   : ∀  (t0 : Int32) (s : gS), f_X6_doAbort_23 (gk E) F  t0 s = some (r, s') → W_X6_doAbort E z0 n0 r s' 23 [] [vI t0] s := by
  intro t0 s hB
  unfold f_X6_doAbort_23 at hB
  obtain ⟨rfl, rfl⟩ := Prod.mk.inj (Option.some.inj hB)
  exact gw_iret rfl rfl rfl dX6_doAbort_23
noncomputable def f_X6_doAbort_0 (κ : gK) (F : Nat)  (l0 : Option Nat) (s : gS) : Option (Int32 × gS) :=
  gB1 (gfR s l0 9 0) fun v1 =>
  gB1 (gaI s v1 0 (466 : Int32)) fun v2 =>
  if v2 = 0 then
    gB1 (gck s l0 9) fun _ =>
    gB2 (f_X6_refuse κ F l0 (1 : Int32) s) fun v7 s6 =>
    f_X6_doAbort_23 κ F  v7 s6
  else
    gB1 (gck s l0 9) fun _ =>
    gB2 (f_X6_drops κ F l0  s) fun v4 s3 =>
    f_X6_doAbort_23 κ F  v4 s3
set_option maxHeartbeats 4000000 in
theorem w_X6_doAbort_0 {E : gE} {F z0 n0 : Nat} {r : Int32} {s' : gS}   : ∀ (l0 : Option Nat)  (s : gS), f_X6_doAbort_0 (gk E) F  l0 s = some (r, s') → W_X6_doAbort E z0 n0 r s' 0 [(0, vR l0)] [] s := by
  intro l0 s hB
  unfold f_X6_doAbort_0 at hB
  refine gw_aload_n 0 rfl dX6_doAbort_0 ?_
  obtain ⟨v1, hv1, hB⟩ := gB1_some hB
  refine gw_getf (C := RX6) (T := TX6) (N := 13) (k := 0) gcl9 (by decide) in_X6 q2694 (gfR_spec hv1) dX6_doAbort_1 ?_
  refine gw_sipush (v := (466 : Int32)) (by decide) dX6_doAbort_4 ?_
  obtain ⟨v2, hv2, hB⟩ := gB1_some hB
  refine gw_iaload hv2 dX6_doAbort_7 ?_
  refine gw_if_ne (tgt := 19) dX6_doAbort_8 (by decide) (fun hcnd => ?_) (fun hcnd => ?_)
  · rw [if_neg hcnd] at hB
    refine gw_aload_n 0 rfl dX6_doAbort_19 ?_
    obtain ⟨u0, hu5, hB⟩ := gB1_some hB
    obtain ⟨v4, s3, hv4, hB⟩ := gB2_some hB
    refine gw_callV (y := yX6_drops) (lw_V q2900 q2902 qs82 q143 q2903) hdV_X6_drops gcl9 hu5 (As := []) (rest := []) (m_X6_drops _ _ _ _ hv4) (Nat.le_of_ble_eq_true rfl) (Nat.le_of_ble_eq_true rfl) rfl (Nat.le_of_ble_eq_true rfl) dX6_doAbort_20 (gCont_i ?_)
    exact gw_sub [] rfl (w_X6_doAbort_23  _ _ hB)
  · rw [if_pos hcnd] at hB
    refine gw_aload_n 0 rfl dX6_doAbort_11 ?_
    refine gw_iconst (v := (1 : Int32)) (by decide) dX6_doAbort_12 ?_
    obtain ⟨u0, hu8, hB⟩ := gB1_some hB
    obtain ⟨v7, s6, hv7, hB⟩ := gB2_some hB
    refine gw_callV (y := yX6_refuse) (lw_V q2753 q2755 qs49 q143 q2756) hdV_X6_refuse gcl9 hu8 (As := [vI (1 : Int32)]) (rest := []) (m_X6_refuse _ _ _ _ _ hv7) (Nat.le_of_ble_eq_true rfl) (Nat.le_of_ble_eq_true rfl) rfl (Nat.le_of_ble_eq_true rfl) dX6_doAbort_13 (gCont_i ?_)
    refine gw_goto (tgt := 23) dX6_doAbort_16 (by decide) ?_
    exact gw_sub [] rfl (w_X6_doAbort_23  _ _ hB)
noncomputable def f_X6_doAbort (κ : gK) (F : Nat) (a0 : Option Nat) (s : gS) : Option (Int32 × gS) := f_X6_doAbort_0 κ F a0 s
theorem m_X6_doAbort {E : gE} {F : Nat} (a0 : Option Nat) (s : gS) (r : Int32) (s' : gS) (h : f_X6_doAbort (gk E) F a0 s = some (r, s')) : gCT E 4 yX6_doAbort (ws_ yX6_doAbort cX6_doAbort 1 (some FieldType.int)) [vR a0] s (.inl (some (vI r))) s' := by
  refine gCT_of2 (fun h => absurd h (by decide)) (plainFor_of_name (by decide)) (Nat.le_of_ble_eq_true rfl) ?_
  exact gw_sub [0] rfl (w_X6_doAbort_0 _ _ h)
def dkwX6_abort_0 : List UInt8 := [42, 182, 0, 142, 42, 42, 182, 0, 166, 182, 0, 148, 172]
abbrev dktX6_abort_0 : List UInt8 := dkwX6_abort_0 ++ []
theorem dksX6_abort_0 : cX6_abort.data.toList.drop 0 = dktX6_abort_0 := by decide +kernel
theorem dX6_abort_0 : decode cX6_abort 0 = .ok (.aload_n 0, 1) := dk_42 (dk_at dksX6_abort_0 0 rfl rfl)
theorem dX6_abort_1 : decode cX6_abort 1 = .ok (.invokevirtual 142, 3) := dk_182 0 142 (dk_at dksX6_abort_0 1 rfl rfl)
theorem dX6_abort_4 : decode cX6_abort 4 = .ok (.aload_n 0, 1) := dk_42 (dk_at dksX6_abort_0 4 rfl rfl)
theorem dX6_abort_5 : decode cX6_abort 5 = .ok (.aload_n 0, 1) := dk_42 (dk_at dksX6_abort_0 5 rfl rfl)
theorem dX6_abort_6 : decode cX6_abort 6 = .ok (.invokevirtual 166, 3) := dk_182 0 166 (dk_at dksX6_abort_0 6 rfl rfl)
theorem dX6_abort_9 : decode cX6_abort 9 = .ok (.invokevirtual 148, 3) := dk_182 0 148 (dk_at dksX6_abort_0 9 rfl rfl)
theorem dX6_abort_12 : decode cX6_abort 12 = .ok (.ireturn, 1) := dk_172 (dk_at dksX6_abort_0 12 rfl rfl)
/-! PageGardenModel.abort()I -/
abbrev M_X6_abort (z0 n0 : Nat) (s' : gS) : gM := (RX6, cX6_abort, 1, (some FieldType.int), "abort", [], 5, z0, n0, s'.2.1, s'.2.2)
abbrev W_X6_abort (E : gE) (z0 n0 : Nat) (r : Int32) (s' : gS) (pc : Nat) (L : List (Nat × gV)) (st : List gV) (s : gS) : Prop := gW E (M_X6_abort z0 n0 s') (gQm E (M_X6_abort z0 n0 s') (.inl (some (vI r))) s') pc L st s
noncomputable def f_X6_abort_0 (κ : gK) (F : Nat)  (l0 : Option Nat) (s : gS) : Option (Int32 × gS) :=
  gB1 (gck s l0 9) fun _ =>
  gB2 (f_X6_hold κ F l0  s) fun v2 s1 =>
  gB1 (gck s1 l0 9) fun _ =>
  gB2 (f_X6_doAbort κ F l0  s1) fun v5 s4 =>
  gB1 (gck s4 l0 9) fun _ =>
  gB2 (f_X6_ends κ F l0 v5 s4) fun v8 s7 =>
  some (v8, s7)
set_option maxHeartbeats 4000000 in
theorem w_X6_abort_0 {E : gE} {F z0 n0 : Nat} {r : Int32} {s' : gS}   : ∀ (l0 : Option Nat)  (s : gS), f_X6_abort_0 (gk E) F  l0 s = some (r, s') → W_X6_abort E z0 n0 r s' 0 [(0, vR l0)] [] s := by
  intro l0 s hB
  unfold f_X6_abort_0 at hB
  refine gw_aload_n 0 rfl dX6_abort_0 ?_
  obtain ⟨u0, hu3, hB⟩ := gB1_some hB
  obtain ⟨v2, s1, hv2, hB⟩ := gB2_some hB
  refine gw_callV (y := yX6_hold) (lw_V q2742 q2744 qs47 q143 q2745) hdV_X6_hold gcl9 hu3 (As := []) (rest := []) (m_X6_hold _ _ _ _ hv2) (Nat.le_of_ble_eq_true rfl) (Nat.le_of_ble_eq_true rfl) rfl (Nat.le_of_ble_eq_true rfl) dX6_abort_1 (gCont_v ?_)
  refine gw_aload_n 0 rfl dX6_abort_4 ?_
  refine gw_aload_n 0 rfl dX6_abort_5 ?_
  obtain ⟨u0, hu6, hB⟩ := gB1_some hB
  obtain ⟨v5, s4, hv5, hB⟩ := gB2_some hB
  refine gw_callV (y := yX6_doAbort) (lw_V q2912 q2914 qs84 q143 q2915) hdV_X6_doAbort gcl9 hu6 (As := []) (rest := [vR l0]) (m_X6_doAbort _ _ _ _ hv5) (Nat.le_of_ble_eq_true rfl) (Nat.le_of_ble_eq_true rfl) rfl (Nat.le_of_ble_eq_true rfl) dX6_abort_6 (gCont_i ?_)
  obtain ⟨u0, hu9, hB⟩ := gB1_some hB
  obtain ⟨v8, s7, hv8, hB⟩ := gB2_some hB
  refine gw_callV (y := yX6_ends) (lw_V q2765 q2767 qs52 q143 q2768) hdV_X6_ends gcl9 hu9 (As := [vI v5]) (rest := []) (m_X6_ends _ _ _ _ _ hv8) (Nat.le_of_ble_eq_true rfl) (Nat.le_of_ble_eq_true rfl) rfl (Nat.le_of_ble_eq_true rfl) dX6_abort_9 (gCont_i ?_)
  obtain ⟨rfl, rfl⟩ := Prod.mk.inj (Option.some.inj hB)
  exact gw_iret rfl rfl rfl dX6_abort_12
noncomputable def f_X6_abort (κ : gK) (F : Nat) (a0 : Option Nat) (s : gS) : Option (Int32 × gS) := f_X6_abort_0 κ F a0 s
theorem m_X6_abort {E : gE} {F : Nat} (a0 : Option Nat) (s : gS) (r : Int32) (s' : gS) (h : f_X6_abort (gk E) F a0 s = some (r, s')) : gCT E 5 yX6_abort (ws_ yX6_abort cX6_abort 1 (some FieldType.int)) [vR a0] s (.inl (some (vI r))) s' := by
  refine gCT_of2 (fun h => absurd h (by decide)) (plainFor_of_name (by decide)) (Nat.le_of_ble_eq_true rfl) ?_
  exact gw_sub [0] rfl (w_X6_abort_0 _ _ h)
def dkwX6_doOpen_3 : List UInt8 := [42, 180, 0, 7, 17, 1, 198, 6, 27, 104, 96, 5, 96, 42, 182, 0, 90, 79, 27, 172]
abbrev dktX6_doOpen_3 : List UInt8 := dkwX6_doOpen_3 ++ []
def dkwX6_doOpen_2 : List UInt8 := [79, 42, 180, 0, 7, 17, 1, 198, 6, 27, 104, 96, 4, 96, 42, 42, 182, 0, 42, 3, 182, 0, 46, 79]
abbrev dktX6_doOpen_2 : List UInt8 := dkwX6_doOpen_2 ++ dktX6_doOpen_3
def dkwX6_doOpen_1 : List UInt8 := [7, 160, 0, 9, 42, 4, 182, 0, 117, 172, 42, 180, 0, 7, 17, 1, 198, 6, 27, 104, 96, 3, 96, 4]
abbrev dktX6_doOpen_1 : List UInt8 := dkwX6_doOpen_1 ++ dktX6_doOpen_2
def dkwX6_doOpen_0 : List UInt8 := [3, 60, 27, 7, 162, 0, 19, 42, 27, 3, 182, 0, 50, 4, 160, 0, 9, 132, 1, 1, 167, 255, 238, 27]
abbrev dktX6_doOpen_0 : List UInt8 := dkwX6_doOpen_0 ++ dktX6_doOpen_1
theorem dksX6_doOpen_0 : cX6_doOpen.data.toList.drop 0 = dktX6_doOpen_0 := by decide +kernel
theorem dksX6_doOpen_1 : cX6_doOpen.data.toList.drop 24 = dktX6_doOpen_1 := dk_seg dksX6_doOpen_0 24 rfl rfl
theorem dksX6_doOpen_2 : cX6_doOpen.data.toList.drop 48 = dktX6_doOpen_2 := dk_seg dksX6_doOpen_1 24 rfl rfl
theorem dksX6_doOpen_3 : cX6_doOpen.data.toList.drop 72 = dktX6_doOpen_3 := dk_seg dksX6_doOpen_2 24 rfl rfl
theorem dX6_doOpen_0 : decode cX6_doOpen 0 = .ok (.iconst 0, 1) := dk_3 (dk_at dksX6_doOpen_0 0 rfl rfl)
theorem dX6_doOpen_1 : decode cX6_doOpen 1 = .ok (.istore_n 1, 1) := dk_60 (dk_at dksX6_doOpen_0 1 rfl rfl)
theorem dX6_doOpen_2 : decode cX6_doOpen 2 = .ok (.iload_n 1, 1) := dk_27 (dk_at dksX6_doOpen_0 2 rfl rfl)
theorem dX6_doOpen_3 : decode cX6_doOpen 3 = .ok (.iconst 4, 1) := dk_7 (dk_at dksX6_doOpen_0 3 rfl rfl)
theorem dX6_doOpen_4 : decode cX6_doOpen 4 = .ok (.if_icmp .ge 19, 3) := dk_162 0 19 (dk_at dksX6_doOpen_0 4 rfl rfl)
theorem dX6_doOpen_7 : decode cX6_doOpen 7 = .ok (.aload_n 0, 1) := dk_42 (dk_at dksX6_doOpen_0 7 rfl rfl)
theorem dX6_doOpen_8 : decode cX6_doOpen 8 = .ok (.iload_n 1, 1) := dk_27 (dk_at dksX6_doOpen_0 8 rfl rfl)
theorem dX6_doOpen_9 : decode cX6_doOpen 9 = .ok (.iconst 0, 1) := dk_3 (dk_at dksX6_doOpen_0 9 rfl rfl)
theorem dX6_doOpen_10 : decode cX6_doOpen 10 = .ok (.invokevirtual 50, 3) := dk_182 0 50 (dk_at dksX6_doOpen_0 10 rfl rfl)
theorem dX6_doOpen_13 : decode cX6_doOpen 13 = .ok (.iconst 1, 1) := dk_4 (dk_at dksX6_doOpen_0 13 rfl rfl)
theorem dX6_doOpen_14 : decode cX6_doOpen 14 = .ok (.if_icmp .ne 9, 3) := dk_160 0 9 (dk_at dksX6_doOpen_0 14 rfl rfl)
theorem dX6_doOpen_17 : decode cX6_doOpen 17 = .ok (.iinc 1 1, 3) := dk_132 1 1 (dk_at dksX6_doOpen_0 17 rfl rfl)
theorem dX6_doOpen_20 : decode cX6_doOpen 20 = .ok (.goto (-18), 3) := dk_167 255 238 (dk_at dksX6_doOpen_0 20 rfl rfl)
theorem dX6_doOpen_23 : decode cX6_doOpen 23 = .ok (.iload_n 1, 1) := dk_27 (dk_at dksX6_doOpen_0 23 rfl rfl)
theorem dX6_doOpen_24 : decode cX6_doOpen 24 = .ok (.iconst 4, 1) := dk_7 (dk_at dksX6_doOpen_1 0 rfl rfl)
theorem dX6_doOpen_25 : decode cX6_doOpen 25 = .ok (.if_icmp .ne 9, 3) := dk_160 0 9 (dk_at dksX6_doOpen_1 1 rfl rfl)
theorem dX6_doOpen_28 : decode cX6_doOpen 28 = .ok (.aload_n 0, 1) := dk_42 (dk_at dksX6_doOpen_1 4 rfl rfl)
theorem dX6_doOpen_29 : decode cX6_doOpen 29 = .ok (.iconst 1, 1) := dk_4 (dk_at dksX6_doOpen_1 5 rfl rfl)
theorem dX6_doOpen_30 : decode cX6_doOpen 30 = .ok (.invokevirtual 117, 3) := dk_182 0 117 (dk_at dksX6_doOpen_1 6 rfl rfl)
theorem dX6_doOpen_33 : decode cX6_doOpen 33 = .ok (.ireturn, 1) := dk_172 (dk_at dksX6_doOpen_1 9 rfl rfl)
theorem dX6_doOpen_34 : decode cX6_doOpen 34 = .ok (.aload_n 0, 1) := dk_42 (dk_at dksX6_doOpen_1 10 rfl rfl)
theorem dX6_doOpen_35 : decode cX6_doOpen 35 = .ok (.getfield 7, 3) := dk_180 0 7 (dk_at dksX6_doOpen_1 11 rfl rfl)
theorem dX6_doOpen_38 : decode cX6_doOpen 38 = .ok (.sipush 454, 3) := dk_17 1 198 (dk_at dksX6_doOpen_1 14 rfl rfl)
theorem dX6_doOpen_41 : decode cX6_doOpen 41 = .ok (.iconst 3, 1) := dk_6 (dk_at dksX6_doOpen_1 17 rfl rfl)
theorem dX6_doOpen_42 : decode cX6_doOpen 42 = .ok (.iload_n 1, 1) := dk_27 (dk_at dksX6_doOpen_1 18 rfl rfl)
theorem dX6_doOpen_43 : decode cX6_doOpen 43 = .ok (.imul, 1) := dk_104 (dk_at dksX6_doOpen_1 19 rfl rfl)
theorem dX6_doOpen_44 : decode cX6_doOpen 44 = .ok (.iadd, 1) := dk_96 (dk_at dksX6_doOpen_1 20 rfl rfl)
theorem dX6_doOpen_45 : decode cX6_doOpen 45 = .ok (.iconst 0, 1) := dk_3 (dk_at dksX6_doOpen_1 21 rfl rfl)
theorem dX6_doOpen_46 : decode cX6_doOpen 46 = .ok (.iadd, 1) := dk_96 (dk_at dksX6_doOpen_1 22 rfl rfl)
theorem dX6_doOpen_47 : decode cX6_doOpen 47 = .ok (.iconst 1, 1) := dk_4 (dk_at dksX6_doOpen_1 23 rfl rfl)
theorem dX6_doOpen_48 : decode cX6_doOpen 48 = .ok (.iastore, 1) := dk_79 (dk_at dksX6_doOpen_2 0 rfl rfl)
theorem dX6_doOpen_49 : decode cX6_doOpen 49 = .ok (.aload_n 0, 1) := dk_42 (dk_at dksX6_doOpen_2 1 rfl rfl)
theorem dX6_doOpen_50 : decode cX6_doOpen 50 = .ok (.getfield 7, 3) := dk_180 0 7 (dk_at dksX6_doOpen_2 2 rfl rfl)
theorem dX6_doOpen_53 : decode cX6_doOpen 53 = .ok (.sipush 454, 3) := dk_17 1 198 (dk_at dksX6_doOpen_2 5 rfl rfl)
theorem dX6_doOpen_56 : decode cX6_doOpen 56 = .ok (.iconst 3, 1) := dk_6 (dk_at dksX6_doOpen_2 8 rfl rfl)
theorem dX6_doOpen_57 : decode cX6_doOpen 57 = .ok (.iload_n 1, 1) := dk_27 (dk_at dksX6_doOpen_2 9 rfl rfl)
theorem dX6_doOpen_58 : decode cX6_doOpen 58 = .ok (.imul, 1) := dk_104 (dk_at dksX6_doOpen_2 10 rfl rfl)
theorem dX6_doOpen_59 : decode cX6_doOpen 59 = .ok (.iadd, 1) := dk_96 (dk_at dksX6_doOpen_2 11 rfl rfl)
theorem dX6_doOpen_60 : decode cX6_doOpen 60 = .ok (.iconst 1, 1) := dk_4 (dk_at dksX6_doOpen_2 12 rfl rfl)
theorem dX6_doOpen_61 : decode cX6_doOpen 61 = .ok (.iadd, 1) := dk_96 (dk_at dksX6_doOpen_2 13 rfl rfl)
theorem dX6_doOpen_62 : decode cX6_doOpen 62 = .ok (.aload_n 0, 1) := dk_42 (dk_at dksX6_doOpen_2 14 rfl rfl)
theorem dX6_doOpen_63 : decode cX6_doOpen 63 = .ok (.aload_n 0, 1) := dk_42 (dk_at dksX6_doOpen_2 15 rfl rfl)
theorem dX6_doOpen_64 : decode cX6_doOpen 64 = .ok (.invokevirtual 42, 3) := dk_182 0 42 (dk_at dksX6_doOpen_2 16 rfl rfl)
theorem dX6_doOpen_67 : decode cX6_doOpen 67 = .ok (.iconst 0, 1) := dk_3 (dk_at dksX6_doOpen_2 19 rfl rfl)
theorem dX6_doOpen_68 : decode cX6_doOpen 68 = .ok (.invokevirtual 46, 3) := dk_182 0 46 (dk_at dksX6_doOpen_2 20 rfl rfl)
theorem dX6_doOpen_71 : decode cX6_doOpen 71 = .ok (.iastore, 1) := dk_79 (dk_at dksX6_doOpen_2 23 rfl rfl)
theorem dX6_doOpen_72 : decode cX6_doOpen 72 = .ok (.aload_n 0, 1) := dk_42 (dk_at dksX6_doOpen_3 0 rfl rfl)
theorem dX6_doOpen_73 : decode cX6_doOpen 73 = .ok (.getfield 7, 3) := dk_180 0 7 (dk_at dksX6_doOpen_3 1 rfl rfl)
theorem dX6_doOpen_76 : decode cX6_doOpen 76 = .ok (.sipush 454, 3) := dk_17 1 198 (dk_at dksX6_doOpen_3 4 rfl rfl)
theorem dX6_doOpen_79 : decode cX6_doOpen 79 = .ok (.iconst 3, 1) := dk_6 (dk_at dksX6_doOpen_3 7 rfl rfl)
theorem dX6_doOpen_80 : decode cX6_doOpen 80 = .ok (.iload_n 1, 1) := dk_27 (dk_at dksX6_doOpen_3 8 rfl rfl)
theorem dX6_doOpen_81 : decode cX6_doOpen 81 = .ok (.imul, 1) := dk_104 (dk_at dksX6_doOpen_3 9 rfl rfl)
theorem dX6_doOpen_82 : decode cX6_doOpen 82 = .ok (.iadd, 1) := dk_96 (dk_at dksX6_doOpen_3 10 rfl rfl)
theorem dX6_doOpen_83 : decode cX6_doOpen 83 = .ok (.iconst 2, 1) := dk_5 (dk_at dksX6_doOpen_3 11 rfl rfl)
theorem dX6_doOpen_84 : decode cX6_doOpen 84 = .ok (.iadd, 1) := dk_96 (dk_at dksX6_doOpen_3 12 rfl rfl)
theorem dX6_doOpen_85 : decode cX6_doOpen 85 = .ok (.aload_n 0, 1) := dk_42 (dk_at dksX6_doOpen_3 13 rfl rfl)
theorem dX6_doOpen_86 : decode cX6_doOpen 86 = .ok (.invokevirtual 90, 3) := dk_182 0 90 (dk_at dksX6_doOpen_3 14 rfl rfl)
theorem dX6_doOpen_89 : decode cX6_doOpen 89 = .ok (.iastore, 1) := dk_79 (dk_at dksX6_doOpen_3 17 rfl rfl)
theorem dX6_doOpen_90 : decode cX6_doOpen 90 = .ok (.iload_n 1, 1) := dk_27 (dk_at dksX6_doOpen_3 18 rfl rfl)
theorem dX6_doOpen_91 : decode cX6_doOpen 91 = .ok (.ireturn, 1) := dk_172 (dk_at dksX6_doOpen_3 19 rfl rfl)
/-! PageGardenModel.doOpen()I -/
abbrev M_X6_doOpen (z0 n0 : Nat) (s' : gS) : gM := (RX6, cX6_doOpen, 2, (some FieldType.int), "doOpen", [], 3, z0, n0, s'.2.1, s'.2.2)
abbrev W_X6_doOpen (E : gE) (z0 n0 : Nat) (r : Int32) (s' : gS) (pc : Nat) (L : List (Nat × gV)) (st : List gV) (s : gS) : Prop := gW E (M_X6_doOpen z0 n0 s') (gQm E (M_X6_doOpen z0 n0 s') (.inl (some (vI r))) s') pc L st s
noncomputable def f_X6_doOpen_23 (κ : gK) (F : Nat)  (l0 : Option Nat) (l1 : Int32) (s : gS) : Option (Int32 × gS) :=
  if l1 = (4 : Int32) then
    gB1 (gck s l0 9) fun _ =>
    gB2 (f_X6_refuse κ F l0 (1 : Int32) s) fun v17 s16 =>
    some (v17, s16)
  else
    gB1 (gfR s l0 9 0) fun v1 =>
    gB1 (gsI κ s v1 (((454 : Int32) + ((3 : Int32) * l1)) + (0 : Int32)) (1 : Int32)) fun s2 =>
    gB1 (gfR s2 l0 9 0) fun v3 =>
    gB1 (gck s2 l0 9) fun _ =>
    gB2 (f_X6_current κ F l0  s2) fun v5 s4 =>
    gB1 (gck s4 l0 9) fun _ =>
    gB2 (f_X6_ofRoot κ F l0 v5 (0 : Int32) s4) fun v8 s7 =>
    gB1 (gsI κ s7 v3 (((454 : Int32) + ((3 : Int32) * l1)) + (1 : Int32)) v8) fun s10 =>
    gB1 (gfR s10 l0 9 0) fun v11 =>
    gB1 (gck s10 l0 9) fun _ =>
    gB2 (f_X6_now κ F l0  s10) fun v13 s12 =>
    gB1 (gsI κ s12 v11 (((454 : Int32) + ((3 : Int32) * l1)) + (2 : Int32)) v13) fun s15 =>
    some (l1, s15)
set_option maxHeartbeats 4000000 in
theorem w_X6_doOpen_23 {E : gE} {F z0 n0 : Nat} {r : Int32} {s' : gS}   : ∀ (l0 : Option Nat) (l1 : Int32)  (s : gS), f_X6_doOpen_23 (gk E) F  l0 l1 s = some (r, s') → W_X6_doOpen E z0 n0 r s' 23 [(0, vR l0), (1, vI l1)] [] s := by
  intro l0 l1 s hB
  unfold f_X6_doOpen_23 at hB
  refine gw_iload_n 1 rfl dX6_doOpen_23 ?_
  refine gw_iconst (v := (4 : Int32)) (by decide) dX6_doOpen_24 ?_
  refine gw_icmp_ne (tgt := 34) dX6_doOpen_25 (by decide) (fun hcnd => ?_) (fun hcnd => ?_)
  · rw [if_neg hcnd] at hB
    refine gw_aload_n 0 rfl dX6_doOpen_34 ?_
    obtain ⟨v1, hv1, hB⟩ := gB1_some hB
    refine gw_getf (C := RX6) (T := TX6) (N := 13) (k := 0) gcl9 (by decide) in_X6 q2694 (gfR_spec hv1) dX6_doOpen_35 ?_
    refine gw_sipush (v := (454 : Int32)) (by decide) dX6_doOpen_38 ?_
    refine gw_iconst (v := (3 : Int32)) (by decide) dX6_doOpen_41 ?_
    refine gw_iload_n 1 rfl dX6_doOpen_42 ?_
    refine gw_imul dX6_doOpen_43 ?_
    refine gw_iadd dX6_doOpen_44 ?_
    refine gw_iconst (v := (0 : Int32)) (by decide) dX6_doOpen_45 ?_
    refine gw_iadd dX6_doOpen_46 ?_
    refine gw_iconst (v := (1 : Int32)) (by decide) dX6_doOpen_47 ?_
    obtain ⟨s2, hs2, hB⟩ := gB1_some hB
    refine gw_iastore hs2 dX6_doOpen_48 ?_
    refine gw_aload_n 0 rfl dX6_doOpen_49 ?_
    obtain ⟨v3, hv3, hB⟩ := gB1_some hB
    refine gw_getf (C := RX6) (T := TX6) (N := 13) (k := 0) gcl9 (by decide) in_X6 q2694 (gfR_spec hv3) dX6_doOpen_50 ?_
    refine gw_sipush (v := (454 : Int32)) (by decide) dX6_doOpen_53 ?_
    refine gw_iconst (v := (3 : Int32)) (by decide) dX6_doOpen_56 ?_
    refine gw_iload_n 1 rfl dX6_doOpen_57 ?_
    refine gw_imul dX6_doOpen_58 ?_
    refine gw_iadd dX6_doOpen_59 ?_
    refine gw_iconst (v := (1 : Int32)) (by decide) dX6_doOpen_60 ?_
    refine gw_iadd dX6_doOpen_61 ?_
    refine gw_aload_n 0 rfl dX6_doOpen_62 ?_
    refine gw_aload_n 0 rfl dX6_doOpen_63 ?_
    obtain ⟨u0, hu6, hB⟩ := gB1_some hB
    obtain ⟨v5, s4, hv5, hB⟩ := gB2_some hB
    refine gw_callV (y := yX6_current) (lw_V q2757 q2759 qs50 q143 q2760) hdV_X6_current gcl9 hu6 (As := []) (rest := [vR l0, vI (((454 : Int32) + ((3 : Int32) * l1)) + (1 : Int32)), vR v3]) (m_X6_current _ _ _ _ hv5) (Nat.le_of_ble_eq_true rfl) (Nat.le_of_ble_eq_true rfl) rfl (Nat.le_of_ble_eq_true rfl) dX6_doOpen_64 (gCont_i ?_)
    refine gw_iconst (v := (0 : Int32)) (by decide) dX6_doOpen_67 ?_
    obtain ⟨u0, hu9, hB⟩ := gB1_some hB
    obtain ⟨v8, s7, hv8, hB⟩ := gB2_some hB
    refine gw_callV (y := yX6_ofRoot) (lw_V q2761 q2763 qs51 q143 q2764) hdV_X6_ofRoot gcl9 hu9 (As := [vI v5, vI (0 : Int32)]) (rest := [vI (((454 : Int32) + ((3 : Int32) * l1)) + (1 : Int32)), vR v3]) (m_X6_ofRoot _ _ _ _ _ _ hv8) (Nat.le_of_ble_eq_true rfl) (Nat.le_of_ble_eq_true rfl) rfl (Nat.le_of_ble_eq_true rfl) dX6_doOpen_68 (gCont_i ?_)
    obtain ⟨s10, hs10, hB⟩ := gB1_some hB
    refine gw_iastore hs10 dX6_doOpen_71 ?_
    refine gw_aload_n 0 rfl dX6_doOpen_72 ?_
    obtain ⟨v11, hv11, hB⟩ := gB1_some hB
    refine gw_getf (C := RX6) (T := TX6) (N := 13) (k := 0) gcl9 (by decide) in_X6 q2694 (gfR_spec hv11) dX6_doOpen_73 ?_
    refine gw_sipush (v := (454 : Int32)) (by decide) dX6_doOpen_76 ?_
    refine gw_iconst (v := (3 : Int32)) (by decide) dX6_doOpen_79 ?_
    refine gw_iload_n 1 rfl dX6_doOpen_80 ?_
    refine gw_imul dX6_doOpen_81 ?_
    refine gw_iadd dX6_doOpen_82 ?_
    refine gw_iconst (v := (2 : Int32)) (by decide) dX6_doOpen_83 ?_
    refine gw_iadd dX6_doOpen_84 ?_
    refine gw_aload_n 0 rfl dX6_doOpen_85 ?_
    obtain ⟨u0, hu14, hB⟩ := gB1_some hB
    obtain ⟨v13, s12, hv13, hB⟩ := gB2_some hB
    refine gw_callV (y := yX6_now) (lw_V q2788 q2790 qs56 q143 q2791) hdV_X6_now gcl9 hu14 (As := []) (rest := [vI (((454 : Int32) + ((3 : Int32) * l1)) + (2 : Int32)), vR v11]) (m_X6_now _ _ _ _ hv13) (Nat.le_of_ble_eq_true rfl) (Nat.le_of_ble_eq_true rfl) rfl (Nat.le_of_ble_eq_true rfl) dX6_doOpen_86 (gCont_i ?_)
    obtain ⟨s15, hs15, hB⟩ := gB1_some hB
    refine gw_iastore hs15 dX6_doOpen_89 ?_
    refine gw_iload_n 1 rfl dX6_doOpen_90 ?_
    obtain ⟨rfl, rfl⟩ := Prod.mk.inj (Option.some.inj hB)
    exact gw_iret rfl rfl rfl dX6_doOpen_91
  · rw [if_pos hcnd] at hB
    refine gw_aload_n 0 rfl dX6_doOpen_28 ?_
    refine gw_iconst (v := (1 : Int32)) (by decide) dX6_doOpen_29 ?_
    obtain ⟨u0, hu18, hB⟩ := gB1_some hB
    obtain ⟨v17, s16, hv17, hB⟩ := gB2_some hB
    refine gw_callV (y := yX6_refuse) (lw_V q2753 q2755 qs49 q143 q2756) hdV_X6_refuse gcl9 hu18 (As := [vI (1 : Int32)]) (rest := []) (m_X6_refuse _ _ _ _ _ hv17) (Nat.le_of_ble_eq_true rfl) (Nat.le_of_ble_eq_true rfl) rfl (Nat.le_of_ble_eq_true rfl) dX6_doOpen_30 (gCont_i ?_)
    obtain ⟨rfl, rfl⟩ := Prod.mk.inj (Option.some.inj hB)
    exact gw_iret rfl rfl rfl dX6_doOpen_33
noncomputable def f_X6_doOpen_2b (κ : gK) (F : Nat) (k2 : Option Nat → Int32 → gS → Option (Int32 × gS)) (l0 : Option Nat) (l1 : Int32) (s : gS) : Option (Int32 × gS) :=
  if (4 : Int32) ≤ l1 then
    f_X6_doOpen_23 κ F  l0 l1 s
  else
    gB1 (gck s l0 9) fun _ =>
    gB2 (f_X6_ofReader κ F l0 l1 (0 : Int32) s) fun v2 s1 =>
    if v2 = (1 : Int32) then
      k2 l0 (l1 + (1 : Int32)) s1
    else
      f_X6_doOpen_23 κ F  l0 l1 s1
noncomputable def f_X6_doOpen_2 (κ : gK) (F : Nat)  : Nat → Option Nat → Int32 → gS → Option (Int32 × gS)
  | 0 => fun _ _ _ => none
  | n + 1 => f_X6_doOpen_2b κ F  (f_X6_doOpen_2 κ F  n)
set_option maxHeartbeats 4000000 in
theorem w_X6_doOpen_2b {E : gE} {F z0 n0 : Nat} {r : Int32} {s' : gS} {k2 : Option Nat → Int32 → gS → Option (Int32 × gS)} (hk2 : ∀ (l0 : Option Nat) (l1 : Int32) (s : gS), k2 l0 l1 s = some (r, s') → W_X6_doOpen E z0 n0 r s' 2 [(0, vR l0), (1, vI l1)] [] s) : ∀ (l0 : Option Nat) (l1 : Int32)  (s : gS), f_X6_doOpen_2b (gk E) F k2 l0 l1 s = some (r, s') → W_X6_doOpen E z0 n0 r s' 2 [(0, vR l0), (1, vI l1)] [] s := by
  intro l0 l1 s hB
  unfold f_X6_doOpen_2b at hB
  refine gw_iload_n 1 rfl dX6_doOpen_2 ?_
  refine gw_iconst (v := (4 : Int32)) (by decide) dX6_doOpen_3 ?_
  refine gw_icmp_ge (tgt := 23) dX6_doOpen_4 (by decide) (fun hcnd => ?_) (fun hcnd => ?_)
  · rw [if_pos hcnd] at hB
    exact gw_sub [0, 1] rfl (w_X6_doOpen_23  _ _ _ hB)
  · rw [if_neg hcnd] at hB
    refine gw_aload_n 0 rfl dX6_doOpen_7 ?_
    refine gw_iload_n 1 rfl dX6_doOpen_8 ?_
    refine gw_iconst (v := (0 : Int32)) (by decide) dX6_doOpen_9 ?_
    obtain ⟨u0, hu3, hB⟩ := gB1_some hB
    obtain ⟨v2, s1, hv2, hB⟩ := gB2_some hB
    refine gw_callV (y := yX6_ofReader) (lw_V q2824 q2826 qs65 q143 q2827) hdV_X6_ofReader gcl9 hu3 (As := [vI l1, vI (0 : Int32)]) (rest := []) (m_X6_ofReader _ _ _ _ _ _ hv2) (Nat.le_of_ble_eq_true rfl) (Nat.le_of_ble_eq_true rfl) rfl (Nat.le_of_ble_eq_true rfl) dX6_doOpen_10 (gCont_i ?_)
    refine gw_iconst (v := (1 : Int32)) (by decide) dX6_doOpen_13 ?_
    refine gw_icmp_ne (tgt := 23) dX6_doOpen_14 (by decide) (fun hcnd => ?_) (fun hcnd => ?_)
    · rw [if_neg hcnd] at hB
      exact gw_sub [0, 1] rfl (w_X6_doOpen_23  _ _ _ hB)
    · rw [if_pos hcnd] at hB
      refine gw_iinc (w := (1 : Int32)) (L' := [(1, vI (l1 + (1 : Int32))), (0, vR l0)]) 1 rfl (by decide) (Nat.le_of_ble_eq_true rfl) rfl dX6_doOpen_17 ?_
      refine gw_goto (tgt := 2) dX6_doOpen_20 (by decide) ?_
      exact gw_sub [1, 0] rfl (hk2 _ _ _ hB)
theorem w_X6_doOpen_2 {E : gE} {F z0 n0 : Nat} {r : Int32} {s' : gS}   : ∀ (n : Nat) (l0 : Option Nat) (l1 : Int32)  (s : gS), f_X6_doOpen_2 (gk E) F  n l0 l1 s = some (r, s') → W_X6_doOpen E z0 n0 r s' 2 [(0, vR l0), (1, vI l1)] [] s := by
  intro n
  induction n with
  | zero => intro l0 l1 s hB; cases hB
  | succ n ih => intro l0 l1 s hB; exact w_X6_doOpen_2b ih l0 l1 s hB
noncomputable def f_X6_doOpen_0 (κ : gK) (F : Nat)  (l0 : Option Nat) (s : gS) : Option (Int32 × gS) :=
  f_X6_doOpen_2 κ F  F l0 (0 : Int32) s
set_option maxHeartbeats 4000000 in
theorem w_X6_doOpen_0 {E : gE} {F z0 n0 : Nat} {r : Int32} {s' : gS}   : ∀ (l0 : Option Nat)  (s : gS), f_X6_doOpen_0 (gk E) F  l0 s = some (r, s') → W_X6_doOpen E z0 n0 r s' 0 [(0, vR l0)] [] s := by
  intro l0 s hB
  unfold f_X6_doOpen_0 at hB
  refine gw_iconst (v := (0 : Int32)) (by decide) dX6_doOpen_0 ?_
  refine gw_istore_n (L' := [(1, vI (0 : Int32)), (0, vR l0)]) (Nat.le_of_ble_eq_true rfl) rfl dX6_doOpen_1 ?_
  exact gw_sub [1, 0] rfl (w_X6_doOpen_2  F _ _ _ hB)
noncomputable def f_X6_doOpen (κ : gK) (F : Nat) (a0 : Option Nat) (s : gS) : Option (Int32 × gS) := f_X6_doOpen_0 κ F a0 s
theorem m_X6_doOpen {E : gE} {F : Nat} (a0 : Option Nat) (s : gS) (r : Int32) (s' : gS) (h : f_X6_doOpen (gk E) F a0 s = some (r, s')) : gCT E 3 yX6_doOpen (ws_ yX6_doOpen cX6_doOpen 2 (some FieldType.int)) [vR a0] s (.inl (some (vI r))) s' := by
  refine gCT_of2 (fun h => absurd h (by decide)) (plainFor_of_name (by decide)) (Nat.le_of_ble_eq_true rfl) ?_
  exact gw_sub [0] rfl (w_X6_doOpen_0 _ _ h)
def dkwX6_open_0 : List UInt8 := [42, 182, 0, 142, 42, 42, 182, 0, 169, 182, 0, 148, 172]
abbrev dktX6_open_0 : List UInt8 := dkwX6_open_0 ++ []
theorem dksX6_open_0 : cX6_open.data.toList.drop 0 = dktX6_open_0 := by decide +kernel
theorem dX6_open_0 : decode cX6_open 0 = .ok (.aload_n 0, 1) := dk_42 (dk_at dksX6_open_0 0 rfl rfl)
theorem dX6_open_1 : decode cX6_open 1 = .ok (.invokevirtual 142, 3) := dk_182 0 142 (dk_at dksX6_open_0 1 rfl rfl)
theorem dX6_open_4 : decode cX6_open 4 = .ok (.aload_n 0, 1) := dk_42 (dk_at dksX6_open_0 4 rfl rfl)
theorem dX6_open_5 : decode cX6_open 5 = .ok (.aload_n 0, 1) := dk_42 (dk_at dksX6_open_0 5 rfl rfl)
theorem dX6_open_6 : decode cX6_open 6 = .ok (.invokevirtual 169, 3) := dk_182 0 169 (dk_at dksX6_open_0 6 rfl rfl)
theorem dX6_open_9 : decode cX6_open 9 = .ok (.invokevirtual 148, 3) := dk_182 0 148 (dk_at dksX6_open_0 9 rfl rfl)
theorem dX6_open_12 : decode cX6_open 12 = .ok (.ireturn, 1) := dk_172 (dk_at dksX6_open_0 12 rfl rfl)
/-! PageGardenModel.open()I -/
abbrev M_X6_open (z0 n0 : Nat) (s' : gS) : gM := (RX6, cX6_open, 1, (some FieldType.int), "open", [], 4, z0, n0, s'.2.1, s'.2.2)
abbrev W_X6_open (E : gE) (z0 n0 : Nat) (r : Int32) (s' : gS) (pc : Nat) (L : List (Nat × gV)) (st : List gV) (s : gS) : Prop := gW E (M_X6_open z0 n0 s') (gQm E (M_X6_open z0 n0 s') (.inl (some (vI r))) s') pc L st s
noncomputable def f_X6_open_0 (κ : gK) (F : Nat)  (l0 : Option Nat) (s : gS) : Option (Int32 × gS) :=
  gB1 (gck s l0 9) fun _ =>
  gB2 (f_X6_hold κ F l0  s) fun v2 s1 =>
  gB1 (gck s1 l0 9) fun _ =>
  gB2 (f_X6_doOpen κ F l0  s1) fun v5 s4 =>
  gB1 (gck s4 l0 9) fun _ =>
  gB2 (f_X6_ends κ F l0 v5 s4) fun v8 s7 =>
  some (v8, s7)
set_option maxHeartbeats 4000000 in
theorem w_X6_open_0 {E : gE} {F z0 n0 : Nat} {r : Int32} {s' : gS}   : ∀ (l0 : Option Nat)  (s : gS), f_X6_open_0 (gk E) F  l0 s = some (r, s') → W_X6_open E z0 n0 r s' 0 [(0, vR l0)] [] s := by
  intro l0 s hB
  unfold f_X6_open_0 at hB
  refine gw_aload_n 0 rfl dX6_open_0 ?_
  obtain ⟨u0, hu3, hB⟩ := gB1_some hB
  obtain ⟨v2, s1, hv2, hB⟩ := gB2_some hB
  refine gw_callV (y := yX6_hold) (lw_V q2742 q2744 qs47 q143 q2745) hdV_X6_hold gcl9 hu3 (As := []) (rest := []) (m_X6_hold _ _ _ _ hv2) (Nat.le_of_ble_eq_true rfl) (Nat.le_of_ble_eq_true rfl) rfl (Nat.le_of_ble_eq_true rfl) dX6_open_1 (gCont_v ?_)
  refine gw_aload_n 0 rfl dX6_open_4 ?_
  refine gw_aload_n 0 rfl dX6_open_5 ?_
  obtain ⟨u0, hu6, hB⟩ := gB1_some hB
  obtain ⟨v5, s4, hv5, hB⟩ := gB2_some hB
  refine gw_callV (y := yX6_doOpen) (lw_V q2920 q2922 qs85 q143 q2923) hdV_X6_doOpen gcl9 hu6 (As := []) (rest := [vR l0]) (m_X6_doOpen _ _ _ _ hv5) (Nat.le_of_ble_eq_true rfl) (Nat.le_of_ble_eq_true rfl) rfl (Nat.le_of_ble_eq_true rfl) dX6_open_6 (gCont_i ?_)
  obtain ⟨u0, hu9, hB⟩ := gB1_some hB
  obtain ⟨v8, s7, hv8, hB⟩ := gB2_some hB
  refine gw_callV (y := yX6_ends) (lw_V q2765 q2767 qs52 q143 q2768) hdV_X6_ends gcl9 hu9 (As := [vI v5]) (rest := []) (m_X6_ends _ _ _ _ _ hv8) (Nat.le_of_ble_eq_true rfl) (Nat.le_of_ble_eq_true rfl) rfl (Nat.le_of_ble_eq_true rfl) dX6_open_9 (gCont_i ?_)
  obtain ⟨rfl, rfl⟩ := Prod.mk.inj (Option.some.inj hB)
  exact gw_iret rfl rfl rfl dX6_open_12
noncomputable def f_X6_open (κ : gK) (F : Nat) (a0 : Option Nat) (s : gS) : Option (Int32 × gS) := f_X6_open_0 κ F a0 s
theorem m_X6_open {E : gE} {F : Nat} (a0 : Option Nat) (s : gS) (r : Int32) (s' : gS) (h : f_X6_open (gk E) F a0 s = some (r, s')) : gCT E 4 yX6_open (ws_ yX6_open cX6_open 1 (some FieldType.int)) [vR a0] s (.inl (some (vI r))) s' := by
  refine gCT_of2 (fun h => absurd h (by decide)) (plainFor_of_name (by decide)) (Nat.le_of_ble_eq_true rfl) ?_
  exact gw_sub [0] rfl (w_X6_open_0 _ _ h)
def dkwX6_freedToDig_1 : List UInt8 := [96, 60, 132, 2, 1, 167, 255, 231, 27, 172]
abbrev dktX6_freedToDig_1 : List UInt8 := dkwX6_freedToDig_1 ++ []
def dkwX6_freedToDig_0 : List UInt8 := [3, 60, 3, 61, 28, 16, 32, 162, 0, 25, 27, 42, 28, 182, 0, 60, 153, 0, 7, 4, 167, 0, 4, 3]
abbrev dktX6_freedToDig_0 : List UInt8 := dkwX6_freedToDig_0 ++ dktX6_freedToDig_1
theorem dksX6_freedToDig_0 : cX6_freedToDig.data.toList.drop 0 = dktX6_freedToDig_0 := by decide +kernel
theorem dksX6_freedToDig_1 : cX6_freedToDig.data.toList.drop 24 = dktX6_freedToDig_1 := dk_seg dksX6_freedToDig_0 24 rfl rfl
theorem dX6_freedToDig_0 : decode cX6_freedToDig 0 = .ok (.iconst 0, 1) := dk_3 (dk_at dksX6_freedToDig_0 0 rfl rfl)
theorem dX6_freedToDig_1 : decode cX6_freedToDig 1 = .ok (.istore_n 1, 1) := dk_60 (dk_at dksX6_freedToDig_0 1 rfl rfl)
theorem dX6_freedToDig_2 : decode cX6_freedToDig 2 = .ok (.iconst 0, 1) := dk_3 (dk_at dksX6_freedToDig_0 2 rfl rfl)
theorem dX6_freedToDig_3 : decode cX6_freedToDig 3 = .ok (.istore_n 2, 1) := dk_61 (dk_at dksX6_freedToDig_0 3 rfl rfl)
theorem dX6_freedToDig_4 : decode cX6_freedToDig 4 = .ok (.iload_n 2, 1) := dk_28 (dk_at dksX6_freedToDig_0 4 rfl rfl)
theorem dX6_freedToDig_5 : decode cX6_freedToDig 5 = .ok (.bipush 32, 2) := dk_16 32 (dk_at dksX6_freedToDig_0 5 rfl rfl)
theorem dX6_freedToDig_7 : decode cX6_freedToDig 7 = .ok (.if_icmp .ge 25, 3) := dk_162 0 25 (dk_at dksX6_freedToDig_0 7 rfl rfl)
theorem dX6_freedToDig_10 : decode cX6_freedToDig 10 = .ok (.iload_n 1, 1) := dk_27 (dk_at dksX6_freedToDig_0 10 rfl rfl)
theorem dX6_freedToDig_11 : decode cX6_freedToDig 11 = .ok (.aload_n 0, 1) := dk_42 (dk_at dksX6_freedToDig_0 11 rfl rfl)
theorem dX6_freedToDig_12 : decode cX6_freedToDig 12 = .ok (.iload_n 2, 1) := dk_28 (dk_at dksX6_freedToDig_0 12 rfl rfl)
theorem dX6_freedToDig_13 : decode cX6_freedToDig 13 = .ok (.invokevirtual 60, 3) := dk_182 0 60 (dk_at dksX6_freedToDig_0 13 rfl rfl)
theorem dX6_freedToDig_16 : decode cX6_freedToDig 16 = .ok (.ifCond .eq 7, 3) := dk_153 0 7 (dk_at dksX6_freedToDig_0 16 rfl rfl)
theorem dX6_freedToDig_19 : decode cX6_freedToDig 19 = .ok (.iconst 1, 1) := dk_4 (dk_at dksX6_freedToDig_0 19 rfl rfl)
theorem dX6_freedToDig_20 : decode cX6_freedToDig 20 = .ok (.goto 4, 3) := dk_167 0 4 (dk_at dksX6_freedToDig_0 20 rfl rfl)
theorem dX6_freedToDig_23 : decode cX6_freedToDig 23 = .ok (.iconst 0, 1) := dk_3 (dk_at dksX6_freedToDig_0 23 rfl rfl)
theorem dX6_freedToDig_24 : decode cX6_freedToDig 24 = .ok (.iadd, 1) := dk_96 (dk_at dksX6_freedToDig_1 0 rfl rfl)
theorem dX6_freedToDig_25 : decode cX6_freedToDig 25 = .ok (.istore_n 1, 1) := dk_60 (dk_at dksX6_freedToDig_1 1 rfl rfl)
theorem dX6_freedToDig_26 : decode cX6_freedToDig 26 = .ok (.iinc 2 1, 3) := dk_132 2 1 (dk_at dksX6_freedToDig_1 2 rfl rfl)
theorem dX6_freedToDig_29 : decode cX6_freedToDig 29 = .ok (.goto (-25), 3) := dk_167 255 231 (dk_at dksX6_freedToDig_1 5 rfl rfl)
theorem dX6_freedToDig_32 : decode cX6_freedToDig 32 = .ok (.iload_n 1, 1) := dk_27 (dk_at dksX6_freedToDig_1 8 rfl rfl)
theorem dX6_freedToDig_33 : decode cX6_freedToDig 33 = .ok (.ireturn, 1) := dk_172 (dk_at dksX6_freedToDig_1 9 rfl rfl)
/-! PageGardenModel.freedToDig()I -/
abbrev M_X6_freedToDig (z0 n0 : Nat) (s' : gS) : gM := (RX6, cX6_freedToDig, 3, (some FieldType.int), "freedToDig", [], 4, z0, n0, s'.2.1, s'.2.2)
abbrev W_X6_freedToDig (E : gE) (z0 n0 : Nat) (r : Int32) (s' : gS) (pc : Nat) (L : List (Nat × gV)) (st : List gV) (s : gS) : Prop := gW E (M_X6_freedToDig z0 n0 s') (gQm E (M_X6_freedToDig z0 n0 s') (.inl (some (vI r))) s') pc L st s
noncomputable def f_X6_freedToDig_24 (κ : gK) (F : Nat) (k4 : Option Nat → Int32 → Int32 → gS → Option (Int32 × gS)) (l0 : Option Nat) (l2 : Int32) (t0 : Int32) (t1 : Int32) (s : gS) : Option (Int32 × gS) :=
  k4 l0 (t0 + t1) (l2 + (1 : Int32)) s
set_option maxHeartbeats 4000000 in
theorem w_X6_freedToDig_24 {E : gE} {F z0 n0 : Nat} {r : Int32} {s' : gS} {k4 : Option Nat → Int32 → Int32 → gS → Option (Int32 × gS)} (hk4 : ∀ (l0 : Option Nat) (l1 : Int32) (l2 : Int32) (s : gS), k4 l0 l1 l2 s = some (r, s') → W_X6_freedToDig E z0 n0 r s' 4 [(0, vR l0), (1, vI l1), (2, vI l2)] [] s) : ∀ (l0 : Option Nat) (l2 : Int32) (t0 : Int32) (t1 : Int32) (s : gS), f_X6_freedToDig_24 (gk E) F k4 l0 l2 t0 t1 s = some (r, s') → W_X6_freedToDig E z0 n0 r s' 24 [(0, vR l0), (2, vI l2)] [vI t1, vI t0] s := by
  intro l0 l2 t0 t1 s hB
  unfold f_X6_freedToDig_24 at hB
  refine gw_iadd dX6_freedToDig_24 ?_
  refine gw_istore_n (L' := [(1, vI (t0 + t1)), (0, vR l0), (2, vI l2)]) (Nat.le_of_ble_eq_true rfl) rfl dX6_freedToDig_25 ?_
  refine gw_iinc (w := (1 : Int32)) (L' := [(2, vI (l2 + (1 : Int32))), (1, vI (t0 + t1)), (0, vR l0)]) 2 rfl (by decide) (Nat.le_of_ble_eq_true rfl) rfl dX6_freedToDig_26 ?_
  refine gw_goto (tgt := 4) dX6_freedToDig_29 (by decide) ?_
  exact gw_sub [2, 1, 0] rfl (hk4 _ _ _ _ hB)
noncomputable def f_X6_freedToDig_4b (κ : gK) (F : Nat) (k4 : Option Nat → Int32 → Int32 → gS → Option (Int32 × gS)) (l0 : Option Nat) (l1 : Int32) (l2 : Int32) (s : gS) : Option (Int32 × gS) :=
  if (32 : Int32) ≤ l2 then
    some (l1, s)
  else
    gB1 (gck s l0 9) fun _ =>
    gB2 (f_X6_canBeDug κ F l0 l2 s) fun v2 s1 =>
    if v2 = 0 then
      f_X6_freedToDig_24 κ F k4 l0 l2 l1 (0 : Int32) s1
    else
      f_X6_freedToDig_24 κ F k4 l0 l2 l1 (1 : Int32) s1
noncomputable def f_X6_freedToDig_4 (κ : gK) (F : Nat)  : Nat → Option Nat → Int32 → Int32 → gS → Option (Int32 × gS)
  | 0 => fun _ _ _ _ => none
  | n + 1 => f_X6_freedToDig_4b κ F  (f_X6_freedToDig_4 κ F  n)
set_option maxHeartbeats 4000000 in
theorem w_X6_freedToDig_4b {E : gE} {F z0 n0 : Nat} {r : Int32} {s' : gS} {k4 : Option Nat → Int32 → Int32 → gS → Option (Int32 × gS)} (hk4 : ∀ (l0 : Option Nat) (l1 : Int32) (l2 : Int32) (s : gS), k4 l0 l1 l2 s = some (r, s') → W_X6_freedToDig E z0 n0 r s' 4 [(0, vR l0), (1, vI l1), (2, vI l2)] [] s) : ∀ (l0 : Option Nat) (l1 : Int32) (l2 : Int32)  (s : gS), f_X6_freedToDig_4b (gk E) F k4 l0 l1 l2 s = some (r, s') → W_X6_freedToDig E z0 n0 r s' 4 [(0, vR l0), (1, vI l1), (2, vI l2)] [] s := by
  intro l0 l1 l2 s hB
  unfold f_X6_freedToDig_4b at hB
  refine gw_iload_n 2 rfl dX6_freedToDig_4 ?_
  refine gw_bipush (v := (32 : Int32)) (by decide) dX6_freedToDig_5 ?_
  refine gw_icmp_ge (tgt := 32) dX6_freedToDig_7 (by decide) (fun hcnd => ?_) (fun hcnd => ?_)
  · rw [if_pos hcnd] at hB
    refine gw_iload_n 1 rfl dX6_freedToDig_32 ?_
    obtain ⟨rfl, rfl⟩ := Prod.mk.inj (Option.some.inj hB)
    exact gw_iret rfl rfl rfl dX6_freedToDig_33
  · rw [if_neg hcnd] at hB
    refine gw_iload_n 1 rfl dX6_freedToDig_10 ?_
    refine gw_aload_n 0 rfl dX6_freedToDig_11 ?_
    refine gw_iload_n 2 rfl dX6_freedToDig_12 ?_
    obtain ⟨u0, hu3, hB⟩ := gB1_some hB
    obtain ⟨v2, s1, hv2, hB⟩ := gB2_some hB
    refine gw_callV (y := yX6_canBeDug) (lw_V q2816 q2818 qs63 q143 q2819) hdV_X6_canBeDug gcl9 hu3 (As := [vI l2]) (rest := [vI l1]) (m_X6_canBeDug _ _ _ _ _ hv2) (Nat.le_of_ble_eq_true rfl) (Nat.le_of_ble_eq_true rfl) rfl (Nat.le_of_ble_eq_true rfl) dX6_freedToDig_13 (gCont_i ?_)
    refine gw_if_eq (tgt := 23) dX6_freedToDig_16 (by decide) (fun hcnd => ?_) (fun hcnd => ?_)
    · rw [if_pos hcnd] at hB
      refine gw_iconst (v := (0 : Int32)) (by decide) dX6_freedToDig_23 ?_
      exact gw_sub [0, 2] rfl (w_X6_freedToDig_24 hk4 _ _ _ _ _ hB)
    · rw [if_neg hcnd] at hB
      refine gw_iconst (v := (1 : Int32)) (by decide) dX6_freedToDig_19 ?_
      refine gw_goto (tgt := 24) dX6_freedToDig_20 (by decide) ?_
      exact gw_sub [0, 2] rfl (w_X6_freedToDig_24 hk4 _ _ _ _ _ hB)
theorem w_X6_freedToDig_4 {E : gE} {F z0 n0 : Nat} {r : Int32} {s' : gS}   : ∀ (n : Nat) (l0 : Option Nat) (l1 : Int32) (l2 : Int32)  (s : gS), f_X6_freedToDig_4 (gk E) F  n l0 l1 l2 s = some (r, s') → W_X6_freedToDig E z0 n0 r s' 4 [(0, vR l0), (1, vI l1), (2, vI l2)] [] s := by
  intro n
  induction n with
  | zero => intro l0 l1 l2 s hB; cases hB
  | succ n ih => intro l0 l1 l2 s hB; exact w_X6_freedToDig_4b ih l0 l1 l2 s hB
noncomputable def f_X6_freedToDig_0 (κ : gK) (F : Nat)  (l0 : Option Nat) (s : gS) : Option (Int32 × gS) :=
  f_X6_freedToDig_4 κ F  F l0 (0 : Int32) (0 : Int32) s
set_option maxHeartbeats 4000000 in
theorem w_X6_freedToDig_0 {E : gE} {F z0 n0 : Nat} {r : Int32} {s' : gS}   : ∀ (l0 : Option Nat)  (s : gS), f_X6_freedToDig_0 (gk E) F  l0 s = some (r, s') → W_X6_freedToDig E z0 n0 r s' 0 [(0, vR l0)] [] s := by
  intro l0 s hB
  unfold f_X6_freedToDig_0 at hB
  refine gw_iconst (v := (0 : Int32)) (by decide) dX6_freedToDig_0 ?_
  refine gw_istore_n (L' := [(1, vI (0 : Int32)), (0, vR l0)]) (Nat.le_of_ble_eq_true rfl) rfl dX6_freedToDig_1 ?_
  refine gw_iconst (v := (0 : Int32)) (by decide) dX6_freedToDig_2 ?_
  refine gw_istore_n (L' := [(2, vI (0 : Int32)), (1, vI (0 : Int32)), (0, vR l0)]) (Nat.le_of_ble_eq_true rfl) rfl dX6_freedToDig_3 ?_
  exact gw_sub [2, 1, 0] rfl (w_X6_freedToDig_4  F _ _ _ _ hB)
noncomputable def f_X6_freedToDig (κ : gK) (F : Nat) (a0 : Option Nat) (s : gS) : Option (Int32 × gS) := f_X6_freedToDig_0 κ F a0 s
theorem m_X6_freedToDig {E : gE} {F : Nat} (a0 : Option Nat) (s : gS) (r : Int32) (s' : gS) (h : f_X6_freedToDig (gk E) F a0 s = some (r, s')) : gCT E 4 yX6_freedToDig (ws_ yX6_freedToDig cX6_freedToDig 3 (some FieldType.int)) [vR a0] s (.inl (some (vI r))) s' := by
  refine gCT_of2 (fun h => absurd h (by decide)) (plainFor_of_name (by decide)) (Nat.le_of_ble_eq_true rfl) ?_
  exact gw_sub [0] rfl (w_X6_freedToDig_0 _ _ h)
def dkwX6_doClose_2 : List UInt8 := [17, 1, 198, 6, 27, 104, 96, 29, 96, 3, 79, 132, 3, 1, 167, 255, 233, 42, 182, 0, 172, 28, 100, 172]
abbrev dktX6_doClose_2 : List UInt8 := dkwX6_doClose_2 ++ []
def dkwX6_doClose_1 : List UInt8 := [42, 5, 182, 0, 117, 172, 42, 182, 0, 172, 61, 3, 62, 29, 6, 162, 0, 24, 42, 180, 0, 7]
abbrev dktX6_doClose_1 : List UInt8 := dkwX6_doClose_1 ++ dktX6_doClose_2
def dkwX6_doClose_0 : List UInt8 := [27, 3, 6, 184, 0, 113, 154, 0, 9, 42, 4, 182, 0, 117, 172, 42, 27, 3, 182, 0, 50, 154, 0, 9]
abbrev dktX6_doClose_0 : List UInt8 := dkwX6_doClose_0 ++ dktX6_doClose_1
theorem dksX6_doClose_0 : cX6_doClose.data.toList.drop 0 = dktX6_doClose_0 := by decide +kernel
theorem dksX6_doClose_1 : cX6_doClose.data.toList.drop 24 = dktX6_doClose_1 := dk_seg dksX6_doClose_0 24 rfl rfl
theorem dksX6_doClose_2 : cX6_doClose.data.toList.drop 46 = dktX6_doClose_2 := dk_seg dksX6_doClose_1 22 rfl rfl
theorem dX6_doClose_0 : decode cX6_doClose 0 = .ok (.iload_n 1, 1) := dk_27 (dk_at dksX6_doClose_0 0 rfl rfl)
theorem dX6_doClose_1 : decode cX6_doClose 1 = .ok (.iconst 0, 1) := dk_3 (dk_at dksX6_doClose_0 1 rfl rfl)
theorem dX6_doClose_2 : decode cX6_doClose 2 = .ok (.iconst 3, 1) := dk_6 (dk_at dksX6_doClose_0 2 rfl rfl)
theorem dX6_doClose_3 : decode cX6_doClose 3 = .ok (.invokestatic 113, 3) := dk_184 0 113 (dk_at dksX6_doClose_0 3 rfl rfl)
theorem dX6_doClose_6 : decode cX6_doClose 6 = .ok (.ifCond .ne 9, 3) := dk_154 0 9 (dk_at dksX6_doClose_0 6 rfl rfl)
theorem dX6_doClose_9 : decode cX6_doClose 9 = .ok (.aload_n 0, 1) := dk_42 (dk_at dksX6_doClose_0 9 rfl rfl)
theorem dX6_doClose_10 : decode cX6_doClose 10 = .ok (.iconst 1, 1) := dk_4 (dk_at dksX6_doClose_0 10 rfl rfl)
theorem dX6_doClose_11 : decode cX6_doClose 11 = .ok (.invokevirtual 117, 3) := dk_182 0 117 (dk_at dksX6_doClose_0 11 rfl rfl)
theorem dX6_doClose_14 : decode cX6_doClose 14 = .ok (.ireturn, 1) := dk_172 (dk_at dksX6_doClose_0 14 rfl rfl)
theorem dX6_doClose_15 : decode cX6_doClose 15 = .ok (.aload_n 0, 1) := dk_42 (dk_at dksX6_doClose_0 15 rfl rfl)
theorem dX6_doClose_16 : decode cX6_doClose 16 = .ok (.iload_n 1, 1) := dk_27 (dk_at dksX6_doClose_0 16 rfl rfl)
theorem dX6_doClose_17 : decode cX6_doClose 17 = .ok (.iconst 0, 1) := dk_3 (dk_at dksX6_doClose_0 17 rfl rfl)
theorem dX6_doClose_18 : decode cX6_doClose 18 = .ok (.invokevirtual 50, 3) := dk_182 0 50 (dk_at dksX6_doClose_0 18 rfl rfl)
theorem dX6_doClose_21 : decode cX6_doClose 21 = .ok (.ifCond .ne 9, 3) := dk_154 0 9 (dk_at dksX6_doClose_0 21 rfl rfl)
theorem dX6_doClose_24 : decode cX6_doClose 24 = .ok (.aload_n 0, 1) := dk_42 (dk_at dksX6_doClose_1 0 rfl rfl)
theorem dX6_doClose_25 : decode cX6_doClose 25 = .ok (.iconst 2, 1) := dk_5 (dk_at dksX6_doClose_1 1 rfl rfl)
theorem dX6_doClose_26 : decode cX6_doClose 26 = .ok (.invokevirtual 117, 3) := dk_182 0 117 (dk_at dksX6_doClose_1 2 rfl rfl)
theorem dX6_doClose_29 : decode cX6_doClose 29 = .ok (.ireturn, 1) := dk_172 (dk_at dksX6_doClose_1 5 rfl rfl)
theorem dX6_doClose_30 : decode cX6_doClose 30 = .ok (.aload_n 0, 1) := dk_42 (dk_at dksX6_doClose_1 6 rfl rfl)
theorem dX6_doClose_31 : decode cX6_doClose 31 = .ok (.invokevirtual 172, 3) := dk_182 0 172 (dk_at dksX6_doClose_1 7 rfl rfl)
theorem dX6_doClose_34 : decode cX6_doClose 34 = .ok (.istore_n 2, 1) := dk_61 (dk_at dksX6_doClose_1 10 rfl rfl)
theorem dX6_doClose_35 : decode cX6_doClose 35 = .ok (.iconst 0, 1) := dk_3 (dk_at dksX6_doClose_1 11 rfl rfl)
theorem dX6_doClose_36 : decode cX6_doClose 36 = .ok (.istore_n 3, 1) := dk_62 (dk_at dksX6_doClose_1 12 rfl rfl)
theorem dX6_doClose_37 : decode cX6_doClose 37 = .ok (.iload_n 3, 1) := dk_29 (dk_at dksX6_doClose_1 13 rfl rfl)
theorem dX6_doClose_38 : decode cX6_doClose 38 = .ok (.iconst 3, 1) := dk_6 (dk_at dksX6_doClose_1 14 rfl rfl)
theorem dX6_doClose_39 : decode cX6_doClose 39 = .ok (.if_icmp .ge 24, 3) := dk_162 0 24 (dk_at dksX6_doClose_1 15 rfl rfl)
theorem dX6_doClose_42 : decode cX6_doClose 42 = .ok (.aload_n 0, 1) := dk_42 (dk_at dksX6_doClose_1 18 rfl rfl)
theorem dX6_doClose_43 : decode cX6_doClose 43 = .ok (.getfield 7, 3) := dk_180 0 7 (dk_at dksX6_doClose_1 19 rfl rfl)
theorem dX6_doClose_46 : decode cX6_doClose 46 = .ok (.sipush 454, 3) := dk_17 1 198 (dk_at dksX6_doClose_2 0 rfl rfl)
theorem dX6_doClose_49 : decode cX6_doClose 49 = .ok (.iconst 3, 1) := dk_6 (dk_at dksX6_doClose_2 3 rfl rfl)
theorem dX6_doClose_50 : decode cX6_doClose 50 = .ok (.iload_n 1, 1) := dk_27 (dk_at dksX6_doClose_2 4 rfl rfl)
theorem dX6_doClose_51 : decode cX6_doClose 51 = .ok (.imul, 1) := dk_104 (dk_at dksX6_doClose_2 5 rfl rfl)
theorem dX6_doClose_52 : decode cX6_doClose 52 = .ok (.iadd, 1) := dk_96 (dk_at dksX6_doClose_2 6 rfl rfl)
theorem dX6_doClose_53 : decode cX6_doClose 53 = .ok (.iload_n 3, 1) := dk_29 (dk_at dksX6_doClose_2 7 rfl rfl)
theorem dX6_doClose_54 : decode cX6_doClose 54 = .ok (.iadd, 1) := dk_96 (dk_at dksX6_doClose_2 8 rfl rfl)
theorem dX6_doClose_55 : decode cX6_doClose 55 = .ok (.iconst 0, 1) := dk_3 (dk_at dksX6_doClose_2 9 rfl rfl)
theorem dX6_doClose_56 : decode cX6_doClose 56 = .ok (.iastore, 1) := dk_79 (dk_at dksX6_doClose_2 10 rfl rfl)
theorem dX6_doClose_57 : decode cX6_doClose 57 = .ok (.iinc 3 1, 3) := dk_132 3 1 (dk_at dksX6_doClose_2 11 rfl rfl)
theorem dX6_doClose_60 : decode cX6_doClose 60 = .ok (.goto (-23), 3) := dk_167 255 233 (dk_at dksX6_doClose_2 14 rfl rfl)
theorem dX6_doClose_63 : decode cX6_doClose 63 = .ok (.aload_n 0, 1) := dk_42 (dk_at dksX6_doClose_2 17 rfl rfl)
theorem dX6_doClose_64 : decode cX6_doClose 64 = .ok (.invokevirtual 172, 3) := dk_182 0 172 (dk_at dksX6_doClose_2 18 rfl rfl)
theorem dX6_doClose_67 : decode cX6_doClose 67 = .ok (.iload_n 2, 1) := dk_28 (dk_at dksX6_doClose_2 21 rfl rfl)
theorem dX6_doClose_68 : decode cX6_doClose 68 = .ok (.isub, 1) := dk_100 (dk_at dksX6_doClose_2 22 rfl rfl)
theorem dX6_doClose_69 : decode cX6_doClose 69 = .ok (.ireturn, 1) := dk_172 (dk_at dksX6_doClose_2 23 rfl rfl)
/-! PageGardenModel.doClose(I)I -/
abbrev M_X6_doClose (z0 n0 : Nat) (s' : gS) : gM := (RX6, cX6_doClose, 4, (some FieldType.int), "doClose", [], 5, z0, n0, s'.2.1, s'.2.2)
abbrev W_X6_doClose (E : gE) (z0 n0 : Nat) (r : Int32) (s' : gS) (pc : Nat) (L : List (Nat × gV)) (st : List gV) (s : gS) : Prop := gW E (M_X6_doClose z0 n0 s') (gQm E (M_X6_doClose z0 n0 s') (.inl (some (vI r))) s') pc L st s
noncomputable def f_X6_doClose_37b (κ : gK) (F : Nat) (k37 : Option Nat → Int32 → Int32 → Int32 → gS → Option (Int32 × gS)) (l0 : Option Nat) (l1 : Int32) (l2 : Int32) (l3 : Int32) (s : gS) : Option (Int32 × gS) :=
  if (3 : Int32) ≤ l3 then
    gB1 (gck s l0 9) fun _ =>
    gB2 (f_X6_freedToDig κ F l0  s) fun v2 s1 =>
    some ((v2 - l2), s1)
  else
    gB1 (gfR s l0 9 0) fun v4 =>
    gB1 (gsI κ s v4 (((454 : Int32) + ((3 : Int32) * l1)) + l3) (0 : Int32)) fun s5 =>
    k37 l0 l1 l2 (l3 + (1 : Int32)) s5
noncomputable def f_X6_doClose_37 (κ : gK) (F : Nat)  : Nat → Option Nat → Int32 → Int32 → Int32 → gS → Option (Int32 × gS)
  | 0 => fun _ _ _ _ _ => none
  | n + 1 => f_X6_doClose_37b κ F  (f_X6_doClose_37 κ F  n)
set_option maxHeartbeats 4000000 in
theorem w_X6_doClose_37b {E : gE} {F z0 n0 : Nat} {r : Int32} {s' : gS} {k37 : Option Nat → Int32 → Int32 → Int32 → gS → Option (Int32 × gS)} (hk37 : ∀ (l0 : Option Nat) (l1 : Int32) (l2 : Int32) (l3 : Int32) (s : gS), k37 l0 l1 l2 l3 s = some (r, s') → W_X6_doClose E z0 n0 r s' 37 [(0, vR l0), (1, vI l1), (2, vI l2), (3, vI l3)] [] s) : ∀ (l0 : Option Nat) (l1 : Int32) (l2 : Int32) (l3 : Int32)  (s : gS), f_X6_doClose_37b (gk E) F k37 l0 l1 l2 l3 s = some (r, s') → W_X6_doClose E z0 n0 r s' 37 [(0, vR l0), (1, vI l1), (2, vI l2), (3, vI l3)] [] s := by
  intro l0 l1 l2 l3 s hB
  unfold f_X6_doClose_37b at hB
  refine gw_iload_n 3 rfl dX6_doClose_37 ?_
  refine gw_iconst (v := (3 : Int32)) (by decide) dX6_doClose_38 ?_
  refine gw_icmp_ge (tgt := 63) dX6_doClose_39 (by decide) (fun hcnd => ?_) (fun hcnd => ?_)
  · rw [if_pos hcnd] at hB
    refine gw_aload_n 0 rfl dX6_doClose_63 ?_
    obtain ⟨u0, hu3, hB⟩ := gB1_some hB
    obtain ⟨v2, s1, hv2, hB⟩ := gB2_some hB
    refine gw_callV (y := yX6_freedToDig) (lw_V q2932 q2934 qs87 q143 q2935) hdV_X6_freedToDig gcl9 hu3 (As := []) (rest := []) (m_X6_freedToDig _ _ _ _ hv2) (Nat.le_of_ble_eq_true rfl) (Nat.le_of_ble_eq_true rfl) rfl (Nat.le_of_ble_eq_true rfl) dX6_doClose_64 (gCont_i ?_)
    refine gw_iload_n 2 rfl dX6_doClose_67 ?_
    refine gw_isub dX6_doClose_68 ?_
    obtain ⟨rfl, rfl⟩ := Prod.mk.inj (Option.some.inj hB)
    exact gw_iret rfl rfl rfl dX6_doClose_69
  · rw [if_neg hcnd] at hB
    refine gw_aload_n 0 rfl dX6_doClose_42 ?_
    obtain ⟨v4, hv4, hB⟩ := gB1_some hB
    refine gw_getf (C := RX6) (T := TX6) (N := 13) (k := 0) gcl9 (by decide) in_X6 q2694 (gfR_spec hv4) dX6_doClose_43 ?_
    refine gw_sipush (v := (454 : Int32)) (by decide) dX6_doClose_46 ?_
    refine gw_iconst (v := (3 : Int32)) (by decide) dX6_doClose_49 ?_
    refine gw_iload_n 1 rfl dX6_doClose_50 ?_
    refine gw_imul dX6_doClose_51 ?_
    refine gw_iadd dX6_doClose_52 ?_
    refine gw_iload_n 3 rfl dX6_doClose_53 ?_
    refine gw_iadd dX6_doClose_54 ?_
    refine gw_iconst (v := (0 : Int32)) (by decide) dX6_doClose_55 ?_
    obtain ⟨s5, hs5, hB⟩ := gB1_some hB
    refine gw_iastore hs5 dX6_doClose_56 ?_
    refine gw_iinc (w := (1 : Int32)) (L' := [(3, vI (l3 + (1 : Int32))), (0, vR l0), (1, vI l1), (2, vI l2)]) 3 rfl (by decide) (Nat.le_of_ble_eq_true rfl) rfl dX6_doClose_57 ?_
    refine gw_goto (tgt := 37) dX6_doClose_60 (by decide) ?_
    exact gw_sub [1, 2, 3, 0] rfl (hk37 _ _ _ _ _ hB)
theorem w_X6_doClose_37 {E : gE} {F z0 n0 : Nat} {r : Int32} {s' : gS}   : ∀ (n : Nat) (l0 : Option Nat) (l1 : Int32) (l2 : Int32) (l3 : Int32)  (s : gS), f_X6_doClose_37 (gk E) F  n l0 l1 l2 l3 s = some (r, s') → W_X6_doClose E z0 n0 r s' 37 [(0, vR l0), (1, vI l1), (2, vI l2), (3, vI l3)] [] s := by
  intro n
  induction n with
  | zero => intro l0 l1 l2 l3 s hB; cases hB
  | succ n ih => intro l0 l1 l2 l3 s hB; exact w_X6_doClose_37b ih l0 l1 l2 l3 s hB
noncomputable def f_X6_doClose_0 (κ : gK) (F : Nat)  (l0 : Option Nat) (l1 : Int32) (s : gS) : Option (Int32 × gS) :=
  gB2 (f_X6_in κ F l1 (0 : Int32) (3 : Int32) s) fun v2 s1 =>
  if v2 = 0 then
    gB1 (gck s1 l0 9) fun _ =>
    gB2 (f_X6_refuse κ F l0 (1 : Int32) s1) fun v13 s12 =>
    some (v13, s12)
  else
    gB1 (gck s1 l0 9) fun _ =>
    gB2 (f_X6_ofReader κ F l0 l1 (0 : Int32) s1) fun v4 s3 =>
    if v4 = 0 then
      gB1 (gck s3 l0 9) fun _ =>
      gB2 (f_X6_refuse κ F l0 (2 : Int32) s3) fun v10 s9 =>
      some (v10, s9)
    else
      gB1 (gck s3 l0 9) fun _ =>
      gB2 (f_X6_freedToDig κ F l0  s3) fun v7 s6 =>
      f_X6_doClose_37 κ F  F l0 l1 v7 (0 : Int32) s6
set_option maxHeartbeats 4000000 in
theorem w_X6_doClose_0 {E : gE} {F z0 n0 : Nat} {r : Int32} {s' : gS}   : ∀ (l0 : Option Nat) (l1 : Int32)  (s : gS), f_X6_doClose_0 (gk E) F  l0 l1 s = some (r, s') → W_X6_doClose E z0 n0 r s' 0 [(0, vR l0), (1, vI l1)] [] s := by
  intro l0 l1 s hB
  unfold f_X6_doClose_0 at hB
  refine gw_iload_n 1 rfl dX6_doClose_0 ?_
  refine gw_iconst (v := (0 : Int32)) (by decide) dX6_doClose_1 ?_
  refine gw_iconst (v := (3 : Int32)) (by decide) dX6_doClose_2 ?_
  obtain ⟨v2, s1, hv2, hB⟩ := gB2_some hB
  refine gw_callS (y := yX6_in) (lw_S q2777 q2778 q143 q2779) hdS_X6_in (As := [vI l1, vI (0 : Int32), vI (3 : Int32)]) (rest := []) (m_X6_in _ _ _ _ _ _ hv2) (Nat.le_of_ble_eq_true rfl) (Nat.le_of_ble_eq_true rfl) rfl (Nat.le_of_ble_eq_true rfl) dX6_doClose_3 (gCont_i ?_)
  refine gw_if_ne (tgt := 15) dX6_doClose_6 (by decide) (fun hcnd => ?_) (fun hcnd => ?_)
  · rw [if_neg hcnd] at hB
    refine gw_aload_n 0 rfl dX6_doClose_15 ?_
    refine gw_iload_n 1 rfl dX6_doClose_16 ?_
    refine gw_iconst (v := (0 : Int32)) (by decide) dX6_doClose_17 ?_
    obtain ⟨u0, hu5, hB⟩ := gB1_some hB
    obtain ⟨v4, s3, hv4, hB⟩ := gB2_some hB
    refine gw_callV (y := yX6_ofReader) (lw_V q2824 q2826 qs65 q143 q2827) hdV_X6_ofReader gcl9 hu5 (As := [vI l1, vI (0 : Int32)]) (rest := []) (m_X6_ofReader _ _ _ _ _ _ hv4) (Nat.le_of_ble_eq_true rfl) (Nat.le_of_ble_eq_true rfl) rfl (Nat.le_of_ble_eq_true rfl) dX6_doClose_18 (gCont_i ?_)
    refine gw_if_ne (tgt := 30) dX6_doClose_21 (by decide) (fun hcnd => ?_) (fun hcnd => ?_)
    · rw [if_neg hcnd] at hB
      refine gw_aload_n 0 rfl dX6_doClose_30 ?_
      obtain ⟨u0, hu8, hB⟩ := gB1_some hB
      obtain ⟨v7, s6, hv7, hB⟩ := gB2_some hB
      refine gw_callV (y := yX6_freedToDig) (lw_V q2932 q2934 qs87 q143 q2935) hdV_X6_freedToDig gcl9 hu8 (As := []) (rest := []) (m_X6_freedToDig _ _ _ _ hv7) (Nat.le_of_ble_eq_true rfl) (Nat.le_of_ble_eq_true rfl) rfl (Nat.le_of_ble_eq_true rfl) dX6_doClose_31 (gCont_i ?_)
      refine gw_istore_n (L' := [(2, vI v7), (0, vR l0), (1, vI l1)]) (Nat.le_of_ble_eq_true rfl) rfl dX6_doClose_34 ?_
      refine gw_iconst (v := (0 : Int32)) (by decide) dX6_doClose_35 ?_
      refine gw_istore_n (L' := [(3, vI (0 : Int32)), (2, vI v7), (0, vR l0), (1, vI l1)]) (Nat.le_of_ble_eq_true rfl) rfl dX6_doClose_36 ?_
      exact gw_sub [2, 3, 1, 0] rfl (w_X6_doClose_37  F _ _ _ _ _ hB)
    · rw [if_pos hcnd] at hB
      refine gw_aload_n 0 rfl dX6_doClose_24 ?_
      refine gw_iconst (v := (2 : Int32)) (by decide) dX6_doClose_25 ?_
      obtain ⟨u0, hu11, hB⟩ := gB1_some hB
      obtain ⟨v10, s9, hv10, hB⟩ := gB2_some hB
      refine gw_callV (y := yX6_refuse) (lw_V q2753 q2755 qs49 q143 q2756) hdV_X6_refuse gcl9 hu11 (As := [vI (2 : Int32)]) (rest := []) (m_X6_refuse _ _ _ _ _ hv10) (Nat.le_of_ble_eq_true rfl) (Nat.le_of_ble_eq_true rfl) rfl (Nat.le_of_ble_eq_true rfl) dX6_doClose_26 (gCont_i ?_)
      obtain ⟨rfl, rfl⟩ := Prod.mk.inj (Option.some.inj hB)
      exact gw_iret rfl rfl rfl dX6_doClose_29
  · rw [if_pos hcnd] at hB
    refine gw_aload_n 0 rfl dX6_doClose_9 ?_
    refine gw_iconst (v := (1 : Int32)) (by decide) dX6_doClose_10 ?_
    obtain ⟨u0, hu14, hB⟩ := gB1_some hB
    obtain ⟨v13, s12, hv13, hB⟩ := gB2_some hB
    refine gw_callV (y := yX6_refuse) (lw_V q2753 q2755 qs49 q143 q2756) hdV_X6_refuse gcl9 hu14 (As := [vI (1 : Int32)]) (rest := []) (m_X6_refuse _ _ _ _ _ hv13) (Nat.le_of_ble_eq_true rfl) (Nat.le_of_ble_eq_true rfl) rfl (Nat.le_of_ble_eq_true rfl) dX6_doClose_11 (gCont_i ?_)
    obtain ⟨rfl, rfl⟩ := Prod.mk.inj (Option.some.inj hB)
    exact gw_iret rfl rfl rfl dX6_doClose_14
noncomputable def f_X6_doClose (κ : gK) (F : Nat) (a0 : Option Nat) (a1 : Int32) (s : gS) : Option (Int32 × gS) := f_X6_doClose_0 κ F a0 a1 s
theorem m_X6_doClose {E : gE} {F : Nat} (a0 : Option Nat) (a1 : Int32) (s : gS) (r : Int32) (s' : gS) (h : f_X6_doClose (gk E) F a0 a1 s = some (r, s')) : gCT E 5 yX6_doClose (ws_ yX6_doClose cX6_doClose 4 (some FieldType.int)) [vR a0, vI a1] s (.inl (some (vI r))) s' := by
  refine gCT_of2 (fun h => absurd h (by decide)) (plainFor_of_name (by decide)) (Nat.le_of_ble_eq_true rfl) ?_
  exact gw_sub [0, 1] rfl (w_X6_doClose_0 _ _ _ h)
def dkwX6_close_0 : List UInt8 := [42, 182, 0, 142, 42, 42, 27, 182, 0, 175, 182, 0, 148, 172]
abbrev dktX6_close_0 : List UInt8 := dkwX6_close_0 ++ []
theorem dksX6_close_0 : cX6_close.data.toList.drop 0 = dktX6_close_0 := by decide +kernel
theorem dX6_close_0 : decode cX6_close 0 = .ok (.aload_n 0, 1) := dk_42 (dk_at dksX6_close_0 0 rfl rfl)
theorem dX6_close_1 : decode cX6_close 1 = .ok (.invokevirtual 142, 3) := dk_182 0 142 (dk_at dksX6_close_0 1 rfl rfl)
theorem dX6_close_4 : decode cX6_close 4 = .ok (.aload_n 0, 1) := dk_42 (dk_at dksX6_close_0 4 rfl rfl)
theorem dX6_close_5 : decode cX6_close 5 = .ok (.aload_n 0, 1) := dk_42 (dk_at dksX6_close_0 5 rfl rfl)
theorem dX6_close_6 : decode cX6_close 6 = .ok (.iload_n 1, 1) := dk_27 (dk_at dksX6_close_0 6 rfl rfl)
theorem dX6_close_7 : decode cX6_close 7 = .ok (.invokevirtual 175, 3) := dk_182 0 175 (dk_at dksX6_close_0 7 rfl rfl)
theorem dX6_close_10 : decode cX6_close 10 = .ok (.invokevirtual 148, 3) := dk_182 0 148 (dk_at dksX6_close_0 10 rfl rfl)
theorem dX6_close_13 : decode cX6_close 13 = .ok (.ireturn, 1) := dk_172 (dk_at dksX6_close_0 13 rfl rfl)
/-! PageGardenModel.close(I)I -/
abbrev M_X6_close (z0 n0 : Nat) (s' : gS) : gM := (RX6, cX6_close, 2, (some FieldType.int), "close", [], 6, z0, n0, s'.2.1, s'.2.2)
abbrev W_X6_close (E : gE) (z0 n0 : Nat) (r : Int32) (s' : gS) (pc : Nat) (L : List (Nat × gV)) (st : List gV) (s : gS) : Prop := gW E (M_X6_close z0 n0 s') (gQm E (M_X6_close z0 n0 s') (.inl (some (vI r))) s') pc L st s
noncomputable def f_X6_close_0 (κ : gK) (F : Nat)  (l0 : Option Nat) (l1 : Int32) (s : gS) : Option (Int32 × gS) :=
  gB1 (gck s l0 9) fun _ =>
  gB2 (f_X6_hold κ F l0  s) fun v2 s1 =>
  gB1 (gck s1 l0 9) fun _ =>
  gB2 (f_X6_doClose κ F l0 l1 s1) fun v5 s4 =>
  gB1 (gck s4 l0 9) fun _ =>
  gB2 (f_X6_ends κ F l0 v5 s4) fun v8 s7 =>
  some (v8, s7)
set_option maxHeartbeats 4000000 in
theorem w_X6_close_0 {E : gE} {F z0 n0 : Nat} {r : Int32} {s' : gS}   : ∀ (l0 : Option Nat) (l1 : Int32)  (s : gS), f_X6_close_0 (gk E) F  l0 l1 s = some (r, s') → W_X6_close E z0 n0 r s' 0 [(0, vR l0), (1, vI l1)] [] s := by
  intro l0 l1 s hB
  unfold f_X6_close_0 at hB
  refine gw_aload_n 0 rfl dX6_close_0 ?_
  obtain ⟨u0, hu3, hB⟩ := gB1_some hB
  obtain ⟨v2, s1, hv2, hB⟩ := gB2_some hB
  refine gw_callV (y := yX6_hold) (lw_V q2742 q2744 qs47 q143 q2745) hdV_X6_hold gcl9 hu3 (As := []) (rest := []) (m_X6_hold _ _ _ _ hv2) (Nat.le_of_ble_eq_true rfl) (Nat.le_of_ble_eq_true rfl) rfl (Nat.le_of_ble_eq_true rfl) dX6_close_1 (gCont_v ?_)
  refine gw_aload_n 0 rfl dX6_close_4 ?_
  refine gw_aload_n 0 rfl dX6_close_5 ?_
  refine gw_iload_n 1 rfl dX6_close_6 ?_
  obtain ⟨u0, hu6, hB⟩ := gB1_some hB
  obtain ⟨v5, s4, hv5, hB⟩ := gB2_some hB
  refine gw_callV (y := yX6_doClose) (lw_V q2928 q2930 qs86 q143 q2931) hdV_X6_doClose gcl9 hu6 (As := [vI l1]) (rest := [vR l0]) (m_X6_doClose _ _ _ _ _ hv5) (Nat.le_of_ble_eq_true rfl) (Nat.le_of_ble_eq_true rfl) rfl (Nat.le_of_ble_eq_true rfl) dX6_close_7 (gCont_i ?_)
  obtain ⟨u0, hu9, hB⟩ := gB1_some hB
  obtain ⟨v8, s7, hv8, hB⟩ := gB2_some hB
  refine gw_callV (y := yX6_ends) (lw_V q2765 q2767 qs52 q143 q2768) hdV_X6_ends gcl9 hu9 (As := [vI v5]) (rest := []) (m_X6_ends _ _ _ _ _ hv8) (Nat.le_of_ble_eq_true rfl) (Nat.le_of_ble_eq_true rfl) rfl (Nat.le_of_ble_eq_true rfl) dX6_close_10 (gCont_i ?_)
  obtain ⟨rfl, rfl⟩ := Prod.mk.inj (Option.some.inj hB)
  exact gw_iret rfl rfl rfl dX6_close_13
noncomputable def f_X6_close (κ : gK) (F : Nat) (a0 : Option Nat) (a1 : Int32) (s : gS) : Option (Int32 × gS) := f_X6_close_0 κ F a0 a1 s
theorem m_X6_close {E : gE} {F : Nat} (a0 : Option Nat) (a1 : Int32) (s : gS) (r : Int32) (s' : gS) (h : f_X6_close (gk E) F a0 a1 s = some (r, s')) : gCT E 6 yX6_close (ws_ yX6_close cX6_close 2 (some FieldType.int)) [vR a0, vI a1] s (.inl (some (vI r))) s' := by
  refine gCT_of2 (fun h => absurd h (by decide)) (plainFor_of_name (by decide)) (Nat.le_of_ble_eq_true rfl) ?_
  exact gw_sub [0, 1] rfl (w_X6_close_0 _ _ _ h)
def dkwX6_isKey_0 : List UInt8 := [26, 3, 16, 99, 184, 0, 113, 172]
abbrev dktX6_isKey_0 : List UInt8 := dkwX6_isKey_0 ++ []
theorem dksX6_isKey_0 : cX6_isKey.data.toList.drop 0 = dktX6_isKey_0 := by decide +kernel
theorem dX6_isKey_0 : decode cX6_isKey 0 = .ok (.iload_n 0, 1) := dk_26 (dk_at dksX6_isKey_0 0 rfl rfl)
theorem dX6_isKey_1 : decode cX6_isKey 1 = .ok (.iconst 0, 1) := dk_3 (dk_at dksX6_isKey_0 1 rfl rfl)
theorem dX6_isKey_2 : decode cX6_isKey 2 = .ok (.bipush 99, 2) := dk_16 99 (dk_at dksX6_isKey_0 2 rfl rfl)
theorem dX6_isKey_4 : decode cX6_isKey 4 = .ok (.invokestatic 113, 3) := dk_184 0 113 (dk_at dksX6_isKey_0 4 rfl rfl)
theorem dX6_isKey_7 : decode cX6_isKey 7 = .ok (.ireturn, 1) := dk_172 (dk_at dksX6_isKey_0 7 rfl rfl)
/-! PageGardenModel.isKey(I)Z -/
abbrev M_X6_isKey (z0 n0 : Nat) (s' : gS) : gM := (RX6, cX6_isKey, 1, (some FieldType.boolean), "isKey", [], 2, z0, n0, s'.2.1, s'.2.2)
abbrev W_X6_isKey (E : gE) (z0 n0 : Nat) (r : Int32) (s' : gS) (pc : Nat) (L : List (Nat × gV)) (st : List gV) (s : gS) : Prop := gW E (M_X6_isKey z0 n0 s') (gQm E (M_X6_isKey z0 n0 s') (.inl (some (vI r))) s') pc L st s
noncomputable def f_X6_isKey_0 (κ : gK) (F : Nat)  (l0 : Int32) (s : gS) : Option (Int32 × gS) :=
  gB2 (f_X6_in κ F l0 (0 : Int32) (99 : Int32) s) fun v2 s1 =>
  gB1 (gok .boolean v2) fun _ => some (v2, s1)
set_option maxHeartbeats 4000000 in
theorem w_X6_isKey_0 {E : gE} {F z0 n0 : Nat} {r : Int32} {s' : gS}   : ∀ (l0 : Int32)  (s : gS), f_X6_isKey_0 (gk E) F  l0 s = some (r, s') → W_X6_isKey E z0 n0 r s' 0 [(0, vI l0)] [] s := by
  intro l0 s hB
  unfold f_X6_isKey_0 at hB
  refine gw_iload_n 0 rfl dX6_isKey_0 ?_
  refine gw_iconst (v := (0 : Int32)) (by decide) dX6_isKey_1 ?_
  refine gw_bipush (v := (99 : Int32)) (by decide) dX6_isKey_2 ?_
  obtain ⟨v2, s1, hv2, hB⟩ := gB2_some hB
  refine gw_callS (y := yX6_in) (lw_S q2777 q2778 q143 q2779) hdS_X6_in (As := [vI l0, vI (0 : Int32), vI (99 : Int32)]) (rest := []) (m_X6_in _ _ _ _ _ _ hv2) (Nat.le_of_ble_eq_true rfl) (Nat.le_of_ble_eq_true rfl) rfl (Nat.le_of_ble_eq_true rfl) dX6_isKey_4 (gCont_i ?_)
  obtain ⟨u, hu, hB⟩ := gB1_some hB
  obtain ⟨rfl, rfl⟩ := Prod.mk.inj (Option.some.inj hB)
  exact gw_zret rfl hu rfl rfl dX6_isKey_7
noncomputable def f_X6_isKey (κ : gK) (F : Nat) (a1 : Int32) (s : gS) : Option (Int32 × gS) := f_X6_isKey_0 κ F a1 s
theorem m_X6_isKey {E : gE} {F : Nat} (a1 : Int32) (s : gS) (r : Int32) (s' : gS) (h : f_X6_isKey (gk E) F a1 s = some (r, s')) : gCT E 2 yX6_isKey (ws_ yX6_isKey cX6_isKey 1 (some FieldType.boolean)) [vI a1] s (.inl (some (vI r))) s' := by
  refine gCT_of2 (fun h => absurd h (by decide)) (plainFor_of_name (by decide)) (Nat.le_of_ble_eq_true rfl) ?_
  exact gw_sub [0] rfl (w_X6_isKey_0 _ _ h)
def dkwX6_fails_0 : List UInt8 := [42, 27, 181, 0, 28, 3, 172]
abbrev dktX6_fails_0 : List UInt8 := dkwX6_fails_0 ++ []
theorem dksX6_fails_0 : cX6_fails.data.toList.drop 0 = dktX6_fails_0 := by decide +kernel
theorem dX6_fails_0 : decode cX6_fails 0 = .ok (.aload_n 0, 1) := dk_42 (dk_at dksX6_fails_0 0 rfl rfl)
theorem dX6_fails_1 : decode cX6_fails 1 = .ok (.iload_n 1, 1) := dk_27 (dk_at dksX6_fails_0 1 rfl rfl)
theorem dX6_fails_2 : decode cX6_fails 2 = .ok (.putfield 28, 3) := dk_181 0 28 (dk_at dksX6_fails_0 2 rfl rfl)
theorem dX6_fails_5 : decode cX6_fails 5 = .ok (.iconst 0, 1) := dk_3 (dk_at dksX6_fails_0 5 rfl rfl)
theorem dX6_fails_6 : decode cX6_fails 6 = .ok (.ireturn, 1) := dk_172 (dk_at dksX6_fails_0 6 rfl rfl)
/-! PageGardenModel.fails(I)I -/
abbrev M_X6_fails (z0 n0 : Nat) (s' : gS) : gM := (RX6, cX6_fails, 2, (some FieldType.int), "fails", [], 1, z0, n0, s'.2.1, s'.2.2)
abbrev W_X6_fails (E : gE) (z0 n0 : Nat) (r : Int32) (s' : gS) (pc : Nat) (L : List (Nat × gV)) (st : List gV) (s : gS) : Prop := gW E (M_X6_fails z0 n0 s') (gQm E (M_X6_fails z0 n0 s') (.inl (some (vI r))) s') pc L st s
noncomputable def f_X6_fails_0 (κ : gK) (F : Nat)  (l0 : Option Nat) (l1 : Int32) (s : gS) : Option (Int32 × gS) :=
  gB1 (gpf κ s l0 9 6 (.int l1)) fun s1 =>
  some ((0 : Int32), s1)
set_option maxHeartbeats 4000000 in
theorem w_X6_fails_0 {E : gE} {F z0 n0 : Nat} {r : Int32} {s' : gS}   : ∀ (l0 : Option Nat) (l1 : Int32)  (s : gS), f_X6_fails_0 (gk E) F  l0 l1 s = some (r, s') → W_X6_fails E z0 n0 r s' 0 [(0, vR l0), (1, vI l1)] [] s := by
  intro l0 l1 s hB
  unfold f_X6_fails_0 at hB
  refine gw_aload_n 0 rfl dX6_fails_0 ?_
  refine gw_iload_n 1 rfl dX6_fails_1 ?_
  obtain ⟨s1, hs1, hB⟩ := gB1_some hB
  refine gw_putf (C := RX6) (T := TX6) (N := 13) (k := 6) tyX6 tyX6_ok nmX6 gcl9 (by decide) in_X6 q2700 rfl (tyX6_ok 6 (by decide)) (gNF_i _) hs1 dX6_fails_2 ?_
  refine gw_iconst (v := (0 : Int32)) (by decide) dX6_fails_5 ?_
  obtain ⟨rfl, rfl⟩ := Prod.mk.inj (Option.some.inj hB)
  exact gw_iret rfl rfl rfl dX6_fails_6
noncomputable def f_X6_fails (κ : gK) (F : Nat) (a0 : Option Nat) (a1 : Int32) (s : gS) : Option (Int32 × gS) := f_X6_fails_0 κ F a0 a1 s
theorem m_X6_fails {E : gE} {F : Nat} (a0 : Option Nat) (a1 : Int32) (s : gS) (r : Int32) (s' : gS) (h : f_X6_fails (gk E) F a0 a1 s = some (r, s')) : gCT E 1 yX6_fails (ws_ yX6_fails cX6_fails 2 (some FieldType.int)) [vR a0, vI a1] s (.inl (some (vI r))) s' := by
  refine gCT_of2 (fun h => absurd h (by decide)) (plainFor_of_name (by decide)) (Nat.le_of_ble_eq_true rfl) ?_
  exact gw_sub [0, 1] rfl (w_X6_fails_0 _ _ _ h)
def dkwX6_get_1 : List UInt8 := [42, 4, 182, 0, 181, 172]
abbrev dktX6_get_1 : List UInt8 := dkwX6_get_1 ++ []
def dkwX6_get_0 : List UInt8 := [42, 3, 181, 0, 28, 27, 184, 0, 178, 153, 0, 15, 42, 42, 182, 0, 90, 27, 182, 0, 139, 167, 0, 8]
abbrev dktX6_get_0 : List UInt8 := dkwX6_get_0 ++ dktX6_get_1
theorem dksX6_get_0 : cX6_get.data.toList.drop 0 = dktX6_get_0 := by decide +kernel
theorem dksX6_get_1 : cX6_get.data.toList.drop 24 = dktX6_get_1 := dk_seg dksX6_get_0 24 rfl rfl
theorem dX6_get_0 : decode cX6_get 0 = .ok (.aload_n 0, 1) := dk_42 (dk_at dksX6_get_0 0 rfl rfl)
theorem dX6_get_1 : decode cX6_get 1 = .ok (.iconst 0, 1) := dk_3 (dk_at dksX6_get_0 1 rfl rfl)
theorem dX6_get_2 : decode cX6_get 2 = .ok (.putfield 28, 3) := dk_181 0 28 (dk_at dksX6_get_0 2 rfl rfl)
theorem dX6_get_5 : decode cX6_get 5 = .ok (.iload_n 1, 1) := dk_27 (dk_at dksX6_get_0 5 rfl rfl)
theorem dX6_get_6 : decode cX6_get 6 = .ok (.invokestatic 178, 3) := dk_184 0 178 (dk_at dksX6_get_0 6 rfl rfl)
theorem dX6_get_9 : decode cX6_get 9 = .ok (.ifCond .eq 15, 3) := dk_153 0 15 (dk_at dksX6_get_0 9 rfl rfl)
theorem dX6_get_12 : decode cX6_get 12 = .ok (.aload_n 0, 1) := dk_42 (dk_at dksX6_get_0 12 rfl rfl)
theorem dX6_get_13 : decode cX6_get 13 = .ok (.aload_n 0, 1) := dk_42 (dk_at dksX6_get_0 13 rfl rfl)
theorem dX6_get_14 : decode cX6_get 14 = .ok (.invokevirtual 90, 3) := dk_182 0 90 (dk_at dksX6_get_0 14 rfl rfl)
theorem dX6_get_17 : decode cX6_get 17 = .ok (.iload_n 1, 1) := dk_27 (dk_at dksX6_get_0 17 rfl rfl)
theorem dX6_get_18 : decode cX6_get 18 = .ok (.invokevirtual 139, 3) := dk_182 0 139 (dk_at dksX6_get_0 18 rfl rfl)
theorem dX6_get_21 : decode cX6_get 21 = .ok (.goto 8, 3) := dk_167 0 8 (dk_at dksX6_get_0 21 rfl rfl)
theorem dX6_get_24 : decode cX6_get 24 = .ok (.aload_n 0, 1) := dk_42 (dk_at dksX6_get_1 0 rfl rfl)
theorem dX6_get_25 : decode cX6_get 25 = .ok (.iconst 1, 1) := dk_4 (dk_at dksX6_get_1 1 rfl rfl)
theorem dX6_get_26 : decode cX6_get 26 = .ok (.invokevirtual 181, 3) := dk_182 0 181 (dk_at dksX6_get_1 2 rfl rfl)
theorem dX6_get_29 : decode cX6_get 29 = .ok (.ireturn, 1) := dk_172 (dk_at dksX6_get_1 5 rfl rfl)
/-! PageGardenModel.get(I)I -/
abbrev M_X6_get (z0 n0 : Nat) (s' : gS) : gM := (RX6, cX6_get, 2, (some FieldType.int), "get", [], 5, z0, n0, s'.2.1, s'.2.2)
abbrev W_X6_get (E : gE) (z0 n0 : Nat) (r : Int32) (s' : gS) (pc : Nat) (L : List (Nat × gV)) (st : List gV) (s : gS) : Prop := gW E (M_X6_get z0 n0 s') (gQm E (M_X6_get z0 n0 s') (.inl (some (vI r))) s') pc L st s
noncomputable def f_X6_get_29 (κ : gK) (F : Nat)  (t0 : Int32) (s : gS) : Option (Int32 × gS) :=
  some (t0, s)
set_option maxHeartbeats 4000000 in
theorem w_X6_get_29 {E : gE} {F z0 n0 : Nat} {r : Int32} {s' : gS}   : ∀  (t0 : Int32) (s : gS), f_X6_get_29 (gk E) F  t0 s = some (r, s') → W_X6_get E z0 n0 r s' 29 [] [vI t0] s := by
  intro t0 s hB
  unfold f_X6_get_29 at hB
  obtain ⟨rfl, rfl⟩ := Prod.mk.inj (Option.some.inj hB)
  exact gw_iret rfl rfl rfl dX6_get_29
noncomputable def f_X6_get_0 (κ : gK) (F : Nat)  (l0 : Option Nat) (l1 : Int32) (s : gS) : Option (Int32 × gS) :=
  gB1 (gpf κ s l0 9 6 (.int (0 : Int32))) fun s1 =>
  gB2 (f_X6_isKey κ F l1 s1) fun v3 s2 =>
  if v3 = 0 then
    gB1 (gck s2 l0 9) fun _ =>
    gB2 (f_X6_fails κ F l0 (1 : Int32) s2) fun v5 s4 =>
    f_X6_get_29 κ F  v5 s4
  else
    gB1 (gck s2 l0 9) fun _ =>
    gB2 (f_X6_now κ F l0  s2) fun v8 s7 =>
    gB1 (gck s7 l0 9) fun _ =>
    gB2 (f_X6_valueBy κ F l0 v8 l1 s7) fun v11 s10 =>
    f_X6_get_29 κ F  v11 s10
set_option maxHeartbeats 4000000 in
theorem w_X6_get_0 {E : gE} {F z0 n0 : Nat} {r : Int32} {s' : gS}   : ∀ (l0 : Option Nat) (l1 : Int32)  (s : gS), f_X6_get_0 (gk E) F  l0 l1 s = some (r, s') → W_X6_get E z0 n0 r s' 0 [(0, vR l0), (1, vI l1)] [] s := by
  intro l0 l1 s hB
  unfold f_X6_get_0 at hB
  refine gw_aload_n 0 rfl dX6_get_0 ?_
  refine gw_iconst (v := (0 : Int32)) (by decide) dX6_get_1 ?_
  obtain ⟨s1, hs1, hB⟩ := gB1_some hB
  refine gw_putf (C := RX6) (T := TX6) (N := 13) (k := 6) tyX6 tyX6_ok nmX6 gcl9 (by decide) in_X6 q2700 rfl (tyX6_ok 6 (by decide)) (gNF_i _) hs1 dX6_get_2 ?_
  refine gw_iload_n 1 rfl dX6_get_5 ?_
  obtain ⟨v3, s2, hv3, hB⟩ := gB2_some hB
  refine gw_callS (y := yX6_isKey) (lw_S q2940 q2941 q143 q2942) hdS_X6_isKey (As := [vI l1]) (rest := []) (m_X6_isKey _ _ _ _ hv3) (Nat.le_of_ble_eq_true rfl) (Nat.le_of_ble_eq_true rfl) rfl (Nat.le_of_ble_eq_true rfl) dX6_get_6 (gCont_i ?_)
  refine gw_if_eq (tgt := 24) dX6_get_9 (by decide) (fun hcnd => ?_) (fun hcnd => ?_)
  · rw [if_pos hcnd] at hB
    refine gw_aload_n 0 rfl dX6_get_24 ?_
    refine gw_iconst (v := (1 : Int32)) (by decide) dX6_get_25 ?_
    obtain ⟨u0, hu6, hB⟩ := gB1_some hB
    obtain ⟨v5, s4, hv5, hB⟩ := gB2_some hB
    refine gw_callV (y := yX6_fails) (lw_V q2943 q2945 qs88 q143 q2946) hdV_X6_fails gcl9 hu6 (As := [vI (1 : Int32)]) (rest := []) (m_X6_fails _ _ _ _ _ hv5) (Nat.le_of_ble_eq_true rfl) (Nat.le_of_ble_eq_true rfl) rfl (Nat.le_of_ble_eq_true rfl) dX6_get_26 (gCont_i ?_)
    exact gw_sub [] rfl (w_X6_get_29  _ _ hB)
  · rw [if_neg hcnd] at hB
    refine gw_aload_n 0 rfl dX6_get_12 ?_
    refine gw_aload_n 0 rfl dX6_get_13 ?_
    obtain ⟨u0, hu9, hB⟩ := gB1_some hB
    obtain ⟨v8, s7, hv8, hB⟩ := gB2_some hB
    refine gw_callV (y := yX6_now) (lw_V q2788 q2790 qs56 q143 q2791) hdV_X6_now gcl9 hu9 (As := []) (rest := [vR l0]) (m_X6_now _ _ _ _ hv8) (Nat.le_of_ble_eq_true rfl) (Nat.le_of_ble_eq_true rfl) rfl (Nat.le_of_ble_eq_true rfl) dX6_get_14 (gCont_i ?_)
    refine gw_iload_n 1 rfl dX6_get_17 ?_
    obtain ⟨u0, hu12, hB⟩ := gB1_some hB
    obtain ⟨v11, s10, hv11, hB⟩ := gB2_some hB
    refine gw_callV (y := yX6_valueBy) (lw_V q2888 q2890 qs80 q143 q2891) hdV_X6_valueBy gcl9 hu12 (As := [vI v8, vI l1]) (rest := []) (m_X6_valueBy _ _ _ _ _ _ hv11) (Nat.le_of_ble_eq_true rfl) (Nat.le_of_ble_eq_true rfl) rfl (Nat.le_of_ble_eq_true rfl) dX6_get_18 (gCont_i ?_)
    refine gw_goto (tgt := 29) dX6_get_21 (by decide) ?_
    exact gw_sub [] rfl (w_X6_get_29  _ _ hB)
noncomputable def f_X6_get (κ : gK) (F : Nat) (a0 : Option Nat) (a1 : Int32) (s : gS) : Option (Int32 × gS) := f_X6_get_0 κ F a0 a1 s
theorem m_X6_get {E : gE} {F : Nat} (a0 : Option Nat) (a1 : Int32) (s : gS) (r : Int32) (s' : gS) (h : f_X6_get (gk E) F a0 a1 s = some (r, s')) : gCT E 5 yX6_get (ws_ yX6_get cX6_get 2 (some FieldType.int)) [vR a0, vI a1] s (.inl (some (vI r))) s' := by
  refine gCT_of2 (fun h => absurd h (by decide)) (plainFor_of_name (by decide)) (Nat.le_of_ble_eq_true rfl) ?_
  exact gw_sub [0, 1] rfl (w_X6_get_0 _ _ _ h)
def dkwX6_drafted_2 : List UInt8 := [167, 0, 4, 3, 172]
abbrev dktX6_drafted_2 : List UInt8 := dkwX6_drafted_2 ++ []
def dkwX6_drafted_1 : List UInt8 := [167, 0, 4, 3, 181, 0, 28, 42, 180, 0, 28, 154, 0, 15, 42, 42, 182, 0, 93, 27, 182, 0, 139]
abbrev dktX6_drafted_1 : List UInt8 := dkwX6_drafted_1 ++ dktX6_drafted_2
def dkwX6_drafted_0 : List UInt8 := [42, 27, 184, 0, 178, 154, 0, 7, 4, 167, 0, 19, 42, 180, 0, 7, 17, 1, 210, 46, 154, 0, 7, 5]
abbrev dktX6_drafted_0 : List UInt8 := dkwX6_drafted_0 ++ dktX6_drafted_1
theorem dksX6_drafted_0 : cX6_drafted.data.toList.drop 0 = dktX6_drafted_0 := by decide +kernel
theorem dksX6_drafted_1 : cX6_drafted.data.toList.drop 24 = dktX6_drafted_1 := dk_seg dksX6_drafted_0 24 rfl rfl
theorem dksX6_drafted_2 : cX6_drafted.data.toList.drop 47 = dktX6_drafted_2 := dk_seg dksX6_drafted_1 23 rfl rfl
theorem dX6_drafted_0 : decode cX6_drafted 0 = .ok (.aload_n 0, 1) := dk_42 (dk_at dksX6_drafted_0 0 rfl rfl)
theorem dX6_drafted_1 : decode cX6_drafted 1 = .ok (.iload_n 1, 1) := dk_27 (dk_at dksX6_drafted_0 1 rfl rfl)
theorem dX6_drafted_2 : decode cX6_drafted 2 = .ok (.invokestatic 178, 3) := dk_184 0 178 (dk_at dksX6_drafted_0 2 rfl rfl)
theorem dX6_drafted_5 : decode cX6_drafted 5 = .ok (.ifCond .ne 7, 3) := dk_154 0 7 (dk_at dksX6_drafted_0 5 rfl rfl)
theorem dX6_drafted_8 : decode cX6_drafted 8 = .ok (.iconst 1, 1) := dk_4 (dk_at dksX6_drafted_0 8 rfl rfl)
theorem dX6_drafted_9 : decode cX6_drafted 9 = .ok (.goto 19, 3) := dk_167 0 19 (dk_at dksX6_drafted_0 9 rfl rfl)
theorem dX6_drafted_12 : decode cX6_drafted 12 = .ok (.aload_n 0, 1) := dk_42 (dk_at dksX6_drafted_0 12 rfl rfl)
theorem dX6_drafted_13 : decode cX6_drafted 13 = .ok (.getfield 7, 3) := dk_180 0 7 (dk_at dksX6_drafted_0 13 rfl rfl)
theorem dX6_drafted_16 : decode cX6_drafted 16 = .ok (.sipush 466, 3) := dk_17 1 210 (dk_at dksX6_drafted_0 16 rfl rfl)
theorem dX6_drafted_19 : decode cX6_drafted 19 = .ok (.iaload, 1) := dk_46 (dk_at dksX6_drafted_0 19 rfl rfl)
theorem dX6_drafted_20 : decode cX6_drafted 20 = .ok (.ifCond .ne 7, 3) := dk_154 0 7 (dk_at dksX6_drafted_0 20 rfl rfl)
theorem dX6_drafted_23 : decode cX6_drafted 23 = .ok (.iconst 2, 1) := dk_5 (dk_at dksX6_drafted_0 23 rfl rfl)
theorem dX6_drafted_24 : decode cX6_drafted 24 = .ok (.goto 4, 3) := dk_167 0 4 (dk_at dksX6_drafted_1 0 rfl rfl)
theorem dX6_drafted_27 : decode cX6_drafted 27 = .ok (.iconst 0, 1) := dk_3 (dk_at dksX6_drafted_1 3 rfl rfl)
theorem dX6_drafted_28 : decode cX6_drafted 28 = .ok (.putfield 28, 3) := dk_181 0 28 (dk_at dksX6_drafted_1 4 rfl rfl)
theorem dX6_drafted_31 : decode cX6_drafted 31 = .ok (.aload_n 0, 1) := dk_42 (dk_at dksX6_drafted_1 7 rfl rfl)
theorem dX6_drafted_32 : decode cX6_drafted 32 = .ok (.getfield 28, 3) := dk_180 0 28 (dk_at dksX6_drafted_1 8 rfl rfl)
theorem dX6_drafted_35 : decode cX6_drafted 35 = .ok (.ifCond .ne 15, 3) := dk_154 0 15 (dk_at dksX6_drafted_1 11 rfl rfl)
theorem dX6_drafted_38 : decode cX6_drafted 38 = .ok (.aload_n 0, 1) := dk_42 (dk_at dksX6_drafted_1 14 rfl rfl)
theorem dX6_drafted_39 : decode cX6_drafted 39 = .ok (.aload_n 0, 1) := dk_42 (dk_at dksX6_drafted_1 15 rfl rfl)
theorem dX6_drafted_40 : decode cX6_drafted 40 = .ok (.invokevirtual 93, 3) := dk_182 0 93 (dk_at dksX6_drafted_1 16 rfl rfl)
theorem dX6_drafted_43 : decode cX6_drafted 43 = .ok (.iload_n 1, 1) := dk_27 (dk_at dksX6_drafted_1 19 rfl rfl)
theorem dX6_drafted_44 : decode cX6_drafted 44 = .ok (.invokevirtual 139, 3) := dk_182 0 139 (dk_at dksX6_drafted_1 20 rfl rfl)
theorem dX6_drafted_47 : decode cX6_drafted 47 = .ok (.goto 4, 3) := dk_167 0 4 (dk_at dksX6_drafted_2 0 rfl rfl)
theorem dX6_drafted_50 : decode cX6_drafted 50 = .ok (.iconst 0, 1) := dk_3 (dk_at dksX6_drafted_2 3 rfl rfl)
theorem dX6_drafted_51 : decode cX6_drafted 51 = .ok (.ireturn, 1) := dk_172 (dk_at dksX6_drafted_2 4 rfl rfl)
/-! PageGardenModel.drafted(I)I -/
abbrev M_X6_drafted (z0 n0 : Nat) (s' : gS) : gM := (RX6, cX6_drafted, 2, (some FieldType.int), "drafted", [], 5, z0, n0, s'.2.1, s'.2.2)
abbrev W_X6_drafted (E : gE) (z0 n0 : Nat) (r : Int32) (s' : gS) (pc : Nat) (L : List (Nat × gV)) (st : List gV) (s : gS) : Prop := gW E (M_X6_drafted z0 n0 s') (gQm E (M_X6_drafted z0 n0 s') (.inl (some (vI r))) s') pc L st s
noncomputable def f_X6_drafted_51 (κ : gK) (F : Nat)  (t0 : Int32) (s : gS) : Option (Int32 × gS) :=
  some (t0, s)
set_option maxHeartbeats 4000000 in
theorem w_X6_drafted_51 {E : gE} {F z0 n0 : Nat} {r : Int32} {s' : gS}   : ∀  (t0 : Int32) (s : gS), f_X6_drafted_51 (gk E) F  t0 s = some (r, s') → W_X6_drafted E z0 n0 r s' 51 [] [vI t0] s := by
  intro t0 s hB
  unfold f_X6_drafted_51 at hB
  obtain ⟨rfl, rfl⟩ := Prod.mk.inj (Option.some.inj hB)
  exact gw_iret rfl rfl rfl dX6_drafted_51
noncomputable def f_X6_drafted_28 (κ : gK) (F : Nat)  (l0 : Option Nat) (l1 : Int32) (t0 : Option Nat) (t1 : Int32) (s : gS) : Option (Int32 × gS) :=
  gB1 (gpf κ s t0 9 6 (.int t1)) fun s1 =>
  gB1 (gfI s1 l0 9 6) fun v2 =>
  if v2 = 0 then
    gB1 (gck s1 l0 9) fun _ =>
    gB2 (f_X6_drafts κ F l0  s1) fun v4 s3 =>
    gB1 (gck s3 l0 9) fun _ =>
    gB2 (f_X6_valueBy κ F l0 v4 l1 s3) fun v7 s6 =>
    f_X6_drafted_51 κ F  v7 s6
  else
    f_X6_drafted_51 κ F  (0 : Int32) s1
set_option maxHeartbeats 4000000 in
theorem w_X6_drafted_28 {E : gE} {F z0 n0 : Nat} {r : Int32} {s' : gS}   : ∀ (l0 : Option Nat) (l1 : Int32) (t0 : Option Nat) (t1 : Int32) (s : gS), f_X6_drafted_28 (gk E) F  l0 l1 t0 t1 s = some (r, s') → W_X6_drafted E z0 n0 r s' 28 [(0, vR l0), (1, vI l1)] [vI t1, vR t0] s := by
  intro l0 l1 t0 t1 s hB
  unfold f_X6_drafted_28 at hB
  obtain ⟨s1, hs1, hB⟩ := gB1_some hB
  refine gw_putf (C := RX6) (T := TX6) (N := 13) (k := 6) tyX6 tyX6_ok nmX6 gcl9 (by decide) in_X6 q2700 rfl (tyX6_ok 6 (by decide)) (gNF_i _) hs1 dX6_drafted_28 ?_
  refine gw_aload_n 0 rfl dX6_drafted_31 ?_
  obtain ⟨v2, hv2, hB⟩ := gB1_some hB
  refine gw_getf (C := RX6) (T := TX6) (N := 13) (k := 6) gcl9 (by decide) in_X6 q2700 (gfI_spec hv2) dX6_drafted_32 ?_
  refine gw_if_ne (tgt := 50) dX6_drafted_35 (by decide) (fun hcnd => ?_) (fun hcnd => ?_)
  · rw [if_neg hcnd] at hB
    refine gw_iconst (v := (0 : Int32)) (by decide) dX6_drafted_50 ?_
    exact gw_sub [] rfl (w_X6_drafted_51  _ _ hB)
  · rw [if_pos hcnd] at hB
    refine gw_aload_n 0 rfl dX6_drafted_38 ?_
    refine gw_aload_n 0 rfl dX6_drafted_39 ?_
    obtain ⟨u0, hu5, hB⟩ := gB1_some hB
    obtain ⟨v4, s3, hv4, hB⟩ := gB2_some hB
    refine gw_callV (y := yX6_drafts) (lw_V q2784 q2786 qs55 q143 q2787) hdV_X6_drafts gcl9 hu5 (As := []) (rest := [vR l0]) (m_X6_drafts _ _ _ _ hv4) (Nat.le_of_ble_eq_true rfl) (Nat.le_of_ble_eq_true rfl) rfl (Nat.le_of_ble_eq_true rfl) dX6_drafted_40 (gCont_i ?_)
    refine gw_iload_n 1 rfl dX6_drafted_43 ?_
    obtain ⟨u0, hu8, hB⟩ := gB1_some hB
    obtain ⟨v7, s6, hv7, hB⟩ := gB2_some hB
    refine gw_callV (y := yX6_valueBy) (lw_V q2888 q2890 qs80 q143 q2891) hdV_X6_valueBy gcl9 hu8 (As := [vI v4, vI l1]) (rest := []) (m_X6_valueBy _ _ _ _ _ _ hv7) (Nat.le_of_ble_eq_true rfl) (Nat.le_of_ble_eq_true rfl) rfl (Nat.le_of_ble_eq_true rfl) dX6_drafted_44 (gCont_i ?_)
    refine gw_goto (tgt := 51) dX6_drafted_47 (by decide) ?_
    exact gw_sub [] rfl (w_X6_drafted_51  _ _ hB)
noncomputable def f_X6_drafted_0 (κ : gK) (F : Nat)  (l0 : Option Nat) (l1 : Int32) (s : gS) : Option (Int32 × gS) :=
  gB2 (f_X6_isKey κ F l1 s) fun v2 s1 =>
  if v2 = 0 then
    f_X6_drafted_28 κ F  l0 l1 l0 (1 : Int32) s1
  else
    gB1 (gfR s1 l0 9 0) fun v3 =>
    gB1 (gaI s1 v3 0 (466 : Int32)) fun v4 =>
    if v4 = 0 then
      f_X6_drafted_28 κ F  l0 l1 l0 (2 : Int32) s1
    else
      f_X6_drafted_28 κ F  l0 l1 l0 (0 : Int32) s1
set_option maxHeartbeats 4000000 in
theorem w_X6_drafted_0 {E : gE} {F z0 n0 : Nat} {r : Int32} {s' : gS}   : ∀ (l0 : Option Nat) (l1 : Int32)  (s : gS), f_X6_drafted_0 (gk E) F  l0 l1 s = some (r, s') → W_X6_drafted E z0 n0 r s' 0 [(0, vR l0), (1, vI l1)] [] s := by
  intro l0 l1 s hB
  unfold f_X6_drafted_0 at hB
  refine gw_aload_n 0 rfl dX6_drafted_0 ?_
  refine gw_iload_n 1 rfl dX6_drafted_1 ?_
  obtain ⟨v2, s1, hv2, hB⟩ := gB2_some hB
  refine gw_callS (y := yX6_isKey) (lw_S q2940 q2941 q143 q2942) hdS_X6_isKey (As := [vI l1]) (rest := [vR l0]) (m_X6_isKey _ _ _ _ hv2) (Nat.le_of_ble_eq_true rfl) (Nat.le_of_ble_eq_true rfl) rfl (Nat.le_of_ble_eq_true rfl) dX6_drafted_2 (gCont_i ?_)
  refine gw_if_ne (tgt := 12) dX6_drafted_5 (by decide) (fun hcnd => ?_) (fun hcnd => ?_)
  · rw [if_neg hcnd] at hB
    refine gw_aload_n 0 rfl dX6_drafted_12 ?_
    obtain ⟨v3, hv3, hB⟩ := gB1_some hB
    refine gw_getf (C := RX6) (T := TX6) (N := 13) (k := 0) gcl9 (by decide) in_X6 q2694 (gfR_spec hv3) dX6_drafted_13 ?_
    refine gw_sipush (v := (466 : Int32)) (by decide) dX6_drafted_16 ?_
    obtain ⟨v4, hv4, hB⟩ := gB1_some hB
    refine gw_iaload hv4 dX6_drafted_19 ?_
    refine gw_if_ne (tgt := 27) dX6_drafted_20 (by decide) (fun hcnd => ?_) (fun hcnd => ?_)
    · rw [if_neg hcnd] at hB
      refine gw_iconst (v := (0 : Int32)) (by decide) dX6_drafted_27 ?_
      exact gw_sub [0, 1] rfl (w_X6_drafted_28  _ _ _ _ _ hB)
    · rw [if_pos hcnd] at hB
      refine gw_iconst (v := (2 : Int32)) (by decide) dX6_drafted_23 ?_
      refine gw_goto (tgt := 28) dX6_drafted_24 (by decide) ?_
      exact gw_sub [0, 1] rfl (w_X6_drafted_28  _ _ _ _ _ hB)
  · rw [if_pos hcnd] at hB
    refine gw_iconst (v := (1 : Int32)) (by decide) dX6_drafted_8 ?_
    refine gw_goto (tgt := 28) dX6_drafted_9 (by decide) ?_
    exact gw_sub [0, 1] rfl (w_X6_drafted_28  _ _ _ _ _ hB)
noncomputable def f_X6_drafted (κ : gK) (F : Nat) (a0 : Option Nat) (a1 : Int32) (s : gS) : Option (Int32 × gS) := f_X6_drafted_0 κ F a0 a1 s
theorem m_X6_drafted {E : gE} {F : Nat} (a0 : Option Nat) (a1 : Int32) (s : gS) (r : Int32) (s' : gS) (h : f_X6_drafted (gk E) F a0 a1 s = some (r, s')) : gCT E 5 yX6_drafted (ws_ yX6_drafted cX6_drafted 2 (some FieldType.int)) [vR a0, vI a1] s (.inl (some (vI r))) s' := by
  refine gCT_of2 (fun h => absurd h (by decide)) (plainFor_of_name (by decide)) (Nat.le_of_ble_eq_true rfl) ?_
  exact gw_sub [0, 1] rfl (w_X6_drafted_0 _ _ _ h)
def dkwX6_isReader_0 : List UInt8 := [26, 3, 6, 184, 0, 113, 172]
abbrev dktX6_isReader_0 : List UInt8 := dkwX6_isReader_0 ++ []
theorem dksX6_isReader_0 : cX6_isReader.data.toList.drop 0 = dktX6_isReader_0 := by decide +kernel
theorem dX6_isReader_0 : decode cX6_isReader 0 = .ok (.iload_n 0, 1) := dk_26 (dk_at dksX6_isReader_0 0 rfl rfl)
theorem dX6_isReader_1 : decode cX6_isReader 1 = .ok (.iconst 0, 1) := dk_3 (dk_at dksX6_isReader_0 1 rfl rfl)
theorem dX6_isReader_2 : decode cX6_isReader 2 = .ok (.iconst 3, 1) := dk_6 (dk_at dksX6_isReader_0 2 rfl rfl)
theorem dX6_isReader_3 : decode cX6_isReader 3 = .ok (.invokestatic 113, 3) := dk_184 0 113 (dk_at dksX6_isReader_0 3 rfl rfl)
theorem dX6_isReader_6 : decode cX6_isReader 6 = .ok (.ireturn, 1) := dk_172 (dk_at dksX6_isReader_0 6 rfl rfl)
/-! PageGardenModel.isReader(I)Z -/
abbrev M_X6_isReader (z0 n0 : Nat) (s' : gS) : gM := (RX6, cX6_isReader, 1, (some FieldType.boolean), "isReader", [], 2, z0, n0, s'.2.1, s'.2.2)
abbrev W_X6_isReader (E : gE) (z0 n0 : Nat) (r : Int32) (s' : gS) (pc : Nat) (L : List (Nat × gV)) (st : List gV) (s : gS) : Prop := gW E (M_X6_isReader z0 n0 s') (gQm E (M_X6_isReader z0 n0 s') (.inl (some (vI r))) s') pc L st s
noncomputable def f_X6_isReader_0 (κ : gK) (F : Nat)  (l0 : Int32) (s : gS) : Option (Int32 × gS) :=
  gB2 (f_X6_in κ F l0 (0 : Int32) (3 : Int32) s) fun v2 s1 =>
  gB1 (gok .boolean v2) fun _ => some (v2, s1)
set_option maxHeartbeats 4000000 in
theorem w_X6_isReader_0 {E : gE} {F z0 n0 : Nat} {r : Int32} {s' : gS}   : ∀ (l0 : Int32)  (s : gS), f_X6_isReader_0 (gk E) F  l0 s = some (r, s') → W_X6_isReader E z0 n0 r s' 0 [(0, vI l0)] [] s := by
  intro l0 s hB
  unfold f_X6_isReader_0 at hB
  refine gw_iload_n 0 rfl dX6_isReader_0 ?_
  refine gw_iconst (v := (0 : Int32)) (by decide) dX6_isReader_1 ?_
  refine gw_iconst (v := (3 : Int32)) (by decide) dX6_isReader_2 ?_
  obtain ⟨v2, s1, hv2, hB⟩ := gB2_some hB
  refine gw_callS (y := yX6_in) (lw_S q2777 q2778 q143 q2779) hdS_X6_in (As := [vI l0, vI (0 : Int32), vI (3 : Int32)]) (rest := []) (m_X6_in _ _ _ _ _ _ hv2) (Nat.le_of_ble_eq_true rfl) (Nat.le_of_ble_eq_true rfl) rfl (Nat.le_of_ble_eq_true rfl) dX6_isReader_3 (gCont_i ?_)
  obtain ⟨u, hu, hB⟩ := gB1_some hB
  obtain ⟨rfl, rfl⟩ := Prod.mk.inj (Option.some.inj hB)
  exact gw_zret rfl hu rfl rfl dX6_isReader_6
noncomputable def f_X6_isReader (κ : gK) (F : Nat) (a1 : Int32) (s : gS) : Option (Int32 × gS) := f_X6_isReader_0 κ F a1 s
theorem m_X6_isReader {E : gE} {F : Nat} (a1 : Int32) (s : gS) (r : Int32) (s' : gS) (h : f_X6_isReader (gk E) F a1 s = some (r, s')) : gCT E 2 yX6_isReader (ws_ yX6_isReader cX6_isReader 1 (some FieldType.boolean)) [vI a1] s (.inl (some (vI r))) s' := by
  refine gCT_of2 (fun h => absurd h (by decide)) (plainFor_of_name (by decide)) (Nat.le_of_ble_eq_true rfl) ?_
  exact gw_sub [0] rfl (w_X6_isReader_0 _ _ h)
def dkwX6_read_2 : List UInt8 := [42, 27, 5, 182, 0, 50, 28, 182, 0, 139, 167, 0, 4, 3, 172]
abbrev dktX6_read_2 : List UInt8 := dkwX6_read_2 ++ []
def dkwX6_read_1 : List UInt8 := [27, 3, 182, 0, 50, 154, 0, 7, 6, 167, 0, 4, 3, 181, 0, 28, 42, 180, 0, 28, 154, 0, 17, 42]
abbrev dktX6_read_1 : List UInt8 := dkwX6_read_1 ++ dktX6_read_2
def dkwX6_read_0 : List UInt8 := [42, 27, 184, 0, 184, 154, 0, 7, 4, 167, 0, 28, 28, 184, 0, 178, 154, 0, 7, 5, 167, 0, 17, 42]
abbrev dktX6_read_0 : List UInt8 := dkwX6_read_0 ++ dktX6_read_1
theorem dksX6_read_0 : cX6_read.data.toList.drop 0 = dktX6_read_0 := by decide +kernel
theorem dksX6_read_1 : cX6_read.data.toList.drop 24 = dktX6_read_1 := dk_seg dksX6_read_0 24 rfl rfl
theorem dksX6_read_2 : cX6_read.data.toList.drop 48 = dktX6_read_2 := dk_seg dksX6_read_1 24 rfl rfl
theorem dX6_read_0 : decode cX6_read 0 = .ok (.aload_n 0, 1) := dk_42 (dk_at dksX6_read_0 0 rfl rfl)
theorem dX6_read_1 : decode cX6_read 1 = .ok (.iload_n 1, 1) := dk_27 (dk_at dksX6_read_0 1 rfl rfl)
theorem dX6_read_2 : decode cX6_read 2 = .ok (.invokestatic 184, 3) := dk_184 0 184 (dk_at dksX6_read_0 2 rfl rfl)
theorem dX6_read_5 : decode cX6_read 5 = .ok (.ifCond .ne 7, 3) := dk_154 0 7 (dk_at dksX6_read_0 5 rfl rfl)
theorem dX6_read_8 : decode cX6_read 8 = .ok (.iconst 1, 1) := dk_4 (dk_at dksX6_read_0 8 rfl rfl)
theorem dX6_read_9 : decode cX6_read 9 = .ok (.goto 28, 3) := dk_167 0 28 (dk_at dksX6_read_0 9 rfl rfl)
theorem dX6_read_12 : decode cX6_read 12 = .ok (.iload_n 2, 1) := dk_28 (dk_at dksX6_read_0 12 rfl rfl)
theorem dX6_read_13 : decode cX6_read 13 = .ok (.invokestatic 178, 3) := dk_184 0 178 (dk_at dksX6_read_0 13 rfl rfl)
theorem dX6_read_16 : decode cX6_read 16 = .ok (.ifCond .ne 7, 3) := dk_154 0 7 (dk_at dksX6_read_0 16 rfl rfl)
theorem dX6_read_19 : decode cX6_read 19 = .ok (.iconst 2, 1) := dk_5 (dk_at dksX6_read_0 19 rfl rfl)
theorem dX6_read_20 : decode cX6_read 20 = .ok (.goto 17, 3) := dk_167 0 17 (dk_at dksX6_read_0 20 rfl rfl)
theorem dX6_read_23 : decode cX6_read 23 = .ok (.aload_n 0, 1) := dk_42 (dk_at dksX6_read_0 23 rfl rfl)
theorem dX6_read_24 : decode cX6_read 24 = .ok (.iload_n 1, 1) := dk_27 (dk_at dksX6_read_1 0 rfl rfl)
theorem dX6_read_25 : decode cX6_read 25 = .ok (.iconst 0, 1) := dk_3 (dk_at dksX6_read_1 1 rfl rfl)
theorem dX6_read_26 : decode cX6_read 26 = .ok (.invokevirtual 50, 3) := dk_182 0 50 (dk_at dksX6_read_1 2 rfl rfl)
theorem dX6_read_29 : decode cX6_read 29 = .ok (.ifCond .ne 7, 3) := dk_154 0 7 (dk_at dksX6_read_1 5 rfl rfl)
theorem dX6_read_32 : decode cX6_read 32 = .ok (.iconst 3, 1) := dk_6 (dk_at dksX6_read_1 8 rfl rfl)
theorem dX6_read_33 : decode cX6_read 33 = .ok (.goto 4, 3) := dk_167 0 4 (dk_at dksX6_read_1 9 rfl rfl)
theorem dX6_read_36 : decode cX6_read 36 = .ok (.iconst 0, 1) := dk_3 (dk_at dksX6_read_1 12 rfl rfl)
theorem dX6_read_37 : decode cX6_read 37 = .ok (.putfield 28, 3) := dk_181 0 28 (dk_at dksX6_read_1 13 rfl rfl)
theorem dX6_read_40 : decode cX6_read 40 = .ok (.aload_n 0, 1) := dk_42 (dk_at dksX6_read_1 16 rfl rfl)
theorem dX6_read_41 : decode cX6_read 41 = .ok (.getfield 28, 3) := dk_180 0 28 (dk_at dksX6_read_1 17 rfl rfl)
theorem dX6_read_44 : decode cX6_read 44 = .ok (.ifCond .ne 17, 3) := dk_154 0 17 (dk_at dksX6_read_1 20 rfl rfl)
theorem dX6_read_47 : decode cX6_read 47 = .ok (.aload_n 0, 1) := dk_42 (dk_at dksX6_read_1 23 rfl rfl)
theorem dX6_read_48 : decode cX6_read 48 = .ok (.aload_n 0, 1) := dk_42 (dk_at dksX6_read_2 0 rfl rfl)
theorem dX6_read_49 : decode cX6_read 49 = .ok (.iload_n 1, 1) := dk_27 (dk_at dksX6_read_2 1 rfl rfl)
theorem dX6_read_50 : decode cX6_read 50 = .ok (.iconst 2, 1) := dk_5 (dk_at dksX6_read_2 2 rfl rfl)
theorem dX6_read_51 : decode cX6_read 51 = .ok (.invokevirtual 50, 3) := dk_182 0 50 (dk_at dksX6_read_2 3 rfl rfl)
theorem dX6_read_54 : decode cX6_read 54 = .ok (.iload_n 2, 1) := dk_28 (dk_at dksX6_read_2 6 rfl rfl)
theorem dX6_read_55 : decode cX6_read 55 = .ok (.invokevirtual 139, 3) := dk_182 0 139 (dk_at dksX6_read_2 7 rfl rfl)
theorem dX6_read_58 : decode cX6_read 58 = .ok (.goto 4, 3) := dk_167 0 4 (dk_at dksX6_read_2 10 rfl rfl)
theorem dX6_read_61 : decode cX6_read 61 = .ok (.iconst 0, 1) := dk_3 (dk_at dksX6_read_2 13 rfl rfl)
theorem dX6_read_62 : decode cX6_read 62 = .ok (.ireturn, 1) := dk_172 (dk_at dksX6_read_2 14 rfl rfl)
/-! PageGardenModel.read(II)I -/
abbrev M_X6_read (z0 n0 : Nat) (s' : gS) : gM := (RX6, cX6_read, 3, (some FieldType.int), "read", [], 5, z0, n0, s'.2.1, s'.2.2)
abbrev W_X6_read (E : gE) (z0 n0 : Nat) (r : Int32) (s' : gS) (pc : Nat) (L : List (Nat × gV)) (st : List gV) (s : gS) : Prop := gW E (M_X6_read z0 n0 s') (gQm E (M_X6_read z0 n0 s') (.inl (some (vI r))) s') pc L st s
noncomputable def f_X6_read_62 (κ : gK) (F : Nat)  (t0 : Int32) (s : gS) : Option (Int32 × gS) :=
  some (t0, s)
set_option maxHeartbeats 4000000 in
theorem w_X6_read_62 {E : gE} {F z0 n0 : Nat} {r : Int32} {s' : gS}   : ∀  (t0 : Int32) (s : gS), f_X6_read_62 (gk E) F  t0 s = some (r, s') → W_X6_read E z0 n0 r s' 62 [] [vI t0] s := by
  intro t0 s hB
  unfold f_X6_read_62 at hB
  obtain ⟨rfl, rfl⟩ := Prod.mk.inj (Option.some.inj hB)
  exact gw_iret rfl rfl rfl dX6_read_62
noncomputable def f_X6_read_37 (κ : gK) (F : Nat)  (l0 : Option Nat) (l1 : Int32) (l2 : Int32) (t0 : Option Nat) (t1 : Int32) (s : gS) : Option (Int32 × gS) :=
  gB1 (gpf κ s t0 9 6 (.int t1)) fun s1 =>
  gB1 (gfI s1 l0 9 6) fun v2 =>
  if v2 = 0 then
    gB1 (gck s1 l0 9) fun _ =>
    gB2 (f_X6_ofReader κ F l0 l1 (2 : Int32) s1) fun v4 s3 =>
    gB1 (gck s3 l0 9) fun _ =>
    gB2 (f_X6_valueBy κ F l0 v4 l2 s3) fun v7 s6 =>
    f_X6_read_62 κ F  v7 s6
  else
    f_X6_read_62 κ F  (0 : Int32) s1
set_option maxHeartbeats 4000000 in
theorem w_X6_read_37 {E : gE} {F z0 n0 : Nat} {r : Int32} {s' : gS}   : ∀ (l0 : Option Nat) (l1 : Int32) (l2 : Int32) (t0 : Option Nat) (t1 : Int32) (s : gS), f_X6_read_37 (gk E) F  l0 l1 l2 t0 t1 s = some (r, s') → W_X6_read E z0 n0 r s' 37 [(0, vR l0), (1, vI l1), (2, vI l2)] [vI t1, vR t0] s := by
  intro l0 l1 l2 t0 t1 s hB
  unfold f_X6_read_37 at hB
  obtain ⟨s1, hs1, hB⟩ := gB1_some hB
  refine gw_putf (C := RX6) (T := TX6) (N := 13) (k := 6) tyX6 tyX6_ok nmX6 gcl9 (by decide) in_X6 q2700 rfl (tyX6_ok 6 (by decide)) (gNF_i _) hs1 dX6_read_37 ?_
  refine gw_aload_n 0 rfl dX6_read_40 ?_
  obtain ⟨v2, hv2, hB⟩ := gB1_some hB
  refine gw_getf (C := RX6) (T := TX6) (N := 13) (k := 6) gcl9 (by decide) in_X6 q2700 (gfI_spec hv2) dX6_read_41 ?_
  refine gw_if_ne (tgt := 61) dX6_read_44 (by decide) (fun hcnd => ?_) (fun hcnd => ?_)
  · rw [if_neg hcnd] at hB
    refine gw_iconst (v := (0 : Int32)) (by decide) dX6_read_61 ?_
    exact gw_sub [] rfl (w_X6_read_62  _ _ hB)
  · rw [if_pos hcnd] at hB
    refine gw_aload_n 0 rfl dX6_read_47 ?_
    refine gw_aload_n 0 rfl dX6_read_48 ?_
    refine gw_iload_n 1 rfl dX6_read_49 ?_
    refine gw_iconst (v := (2 : Int32)) (by decide) dX6_read_50 ?_
    obtain ⟨u0, hu5, hB⟩ := gB1_some hB
    obtain ⟨v4, s3, hv4, hB⟩ := gB2_some hB
    refine gw_callV (y := yX6_ofReader) (lw_V q2824 q2826 qs65 q143 q2827) hdV_X6_ofReader gcl9 hu5 (As := [vI l1, vI (2 : Int32)]) (rest := [vR l0]) (m_X6_ofReader _ _ _ _ _ _ hv4) (Nat.le_of_ble_eq_true rfl) (Nat.le_of_ble_eq_true rfl) rfl (Nat.le_of_ble_eq_true rfl) dX6_read_51 (gCont_i ?_)
    refine gw_iload_n 2 rfl dX6_read_54 ?_
    obtain ⟨u0, hu8, hB⟩ := gB1_some hB
    obtain ⟨v7, s6, hv7, hB⟩ := gB2_some hB
    refine gw_callV (y := yX6_valueBy) (lw_V q2888 q2890 qs80 q143 q2891) hdV_X6_valueBy gcl9 hu8 (As := [vI v4, vI l2]) (rest := []) (m_X6_valueBy _ _ _ _ _ _ hv7) (Nat.le_of_ble_eq_true rfl) (Nat.le_of_ble_eq_true rfl) rfl (Nat.le_of_ble_eq_true rfl) dX6_read_55 (gCont_i ?_)
    refine gw_goto (tgt := 62) dX6_read_58 (by decide) ?_
    exact gw_sub [] rfl (w_X6_read_62  _ _ hB)
noncomputable def f_X6_read_0 (κ : gK) (F : Nat)  (l0 : Option Nat) (l1 : Int32) (l2 : Int32) (s : gS) : Option (Int32 × gS) :=
  gB2 (f_X6_isReader κ F l1 s) fun v2 s1 =>
  if v2 = 0 then
    f_X6_read_37 κ F  l0 l1 l2 l0 (1 : Int32) s1
  else
    gB2 (f_X6_isKey κ F l2 s1) fun v4 s3 =>
    if v4 = 0 then
      f_X6_read_37 κ F  l0 l1 l2 l0 (2 : Int32) s3
    else
      gB1 (gck s3 l0 9) fun _ =>
      gB2 (f_X6_ofReader κ F l0 l1 (0 : Int32) s3) fun v6 s5 =>
      if v6 = 0 then
        f_X6_read_37 κ F  l0 l1 l2 l0 (3 : Int32) s5
      else
        f_X6_read_37 κ F  l0 l1 l2 l0 (0 : Int32) s5
set_option maxHeartbeats 4000000 in
theorem w_X6_read_0 {E : gE} {F z0 n0 : Nat} {r : Int32} {s' : gS}   : ∀ (l0 : Option Nat) (l1 : Int32) (l2 : Int32)  (s : gS), f_X6_read_0 (gk E) F  l0 l1 l2 s = some (r, s') → W_X6_read E z0 n0 r s' 0 [(0, vR l0), (1, vI l1), (2, vI l2)] [] s := by
  intro l0 l1 l2 s hB
  unfold f_X6_read_0 at hB
  refine gw_aload_n 0 rfl dX6_read_0 ?_
  refine gw_iload_n 1 rfl dX6_read_1 ?_
  obtain ⟨v2, s1, hv2, hB⟩ := gB2_some hB
  refine gw_callS (y := yX6_isReader) (lw_S q2955 q2956 q143 q2957) hdS_X6_isReader (As := [vI l1]) (rest := [vR l0]) (m_X6_isReader _ _ _ _ hv2) (Nat.le_of_ble_eq_true rfl) (Nat.le_of_ble_eq_true rfl) rfl (Nat.le_of_ble_eq_true rfl) dX6_read_2 (gCont_i ?_)
  refine gw_if_ne (tgt := 12) dX6_read_5 (by decide) (fun hcnd => ?_) (fun hcnd => ?_)
  · rw [if_neg hcnd] at hB
    refine gw_iload_n 2 rfl dX6_read_12 ?_
    obtain ⟨v4, s3, hv4, hB⟩ := gB2_some hB
    refine gw_callS (y := yX6_isKey) (lw_S q2940 q2941 q143 q2942) hdS_X6_isKey (As := [vI l2]) (rest := [vR l0]) (m_X6_isKey _ _ _ _ hv4) (Nat.le_of_ble_eq_true rfl) (Nat.le_of_ble_eq_true rfl) rfl (Nat.le_of_ble_eq_true rfl) dX6_read_13 (gCont_i ?_)
    refine gw_if_ne (tgt := 23) dX6_read_16 (by decide) (fun hcnd => ?_) (fun hcnd => ?_)
    · rw [if_neg hcnd] at hB
      refine gw_aload_n 0 rfl dX6_read_23 ?_
      refine gw_iload_n 1 rfl dX6_read_24 ?_
      refine gw_iconst (v := (0 : Int32)) (by decide) dX6_read_25 ?_
      obtain ⟨u0, hu7, hB⟩ := gB1_some hB
      obtain ⟨v6, s5, hv6, hB⟩ := gB2_some hB
      refine gw_callV (y := yX6_ofReader) (lw_V q2824 q2826 qs65 q143 q2827) hdV_X6_ofReader gcl9 hu7 (As := [vI l1, vI (0 : Int32)]) (rest := [vR l0]) (m_X6_ofReader _ _ _ _ _ _ hv6) (Nat.le_of_ble_eq_true rfl) (Nat.le_of_ble_eq_true rfl) rfl (Nat.le_of_ble_eq_true rfl) dX6_read_26 (gCont_i ?_)
      refine gw_if_ne (tgt := 36) dX6_read_29 (by decide) (fun hcnd => ?_) (fun hcnd => ?_)
      · rw [if_neg hcnd] at hB
        refine gw_iconst (v := (0 : Int32)) (by decide) dX6_read_36 ?_
        exact gw_sub [0, 1, 2] rfl (w_X6_read_37  _ _ _ _ _ _ hB)
      · rw [if_pos hcnd] at hB
        refine gw_iconst (v := (3 : Int32)) (by decide) dX6_read_32 ?_
        refine gw_goto (tgt := 37) dX6_read_33 (by decide) ?_
        exact gw_sub [0, 1, 2] rfl (w_X6_read_37  _ _ _ _ _ _ hB)
    · rw [if_pos hcnd] at hB
      refine gw_iconst (v := (2 : Int32)) (by decide) dX6_read_19 ?_
      refine gw_goto (tgt := 37) dX6_read_20 (by decide) ?_
      exact gw_sub [0, 1, 2] rfl (w_X6_read_37  _ _ _ _ _ _ hB)
  · rw [if_pos hcnd] at hB
    refine gw_iconst (v := (1 : Int32)) (by decide) dX6_read_8 ?_
    refine gw_goto (tgt := 37) dX6_read_9 (by decide) ?_
    exact gw_sub [0, 1, 2] rfl (w_X6_read_37  _ _ _ _ _ _ hB)
noncomputable def f_X6_read (κ : gK) (F : Nat) (a0 : Option Nat) (a1 : Int32) (a2 : Int32) (s : gS) : Option (Int32 × gS) := f_X6_read_0 κ F a0 a1 a2 s
theorem m_X6_read {E : gE} {F : Nat} (a0 : Option Nat) (a1 : Int32) (a2 : Int32) (s : gS) (r : Int32) (s' : gS) (h : f_X6_read (gk E) F a0 a1 a2 s = some (r, s')) : gCT E 5 yX6_read (ws_ yX6_read cX6_read 3 (some FieldType.int)) [vR a0, vI a1, vI a2] s (.inl (some (vI r))) s' := by
  refine gCT_of2 (fun h => absurd h (by decide)) (plainFor_of_name (by decide)) (Nat.le_of_ble_eq_true rfl) ?_
  exact gw_sub [0, 1, 2] rfl (w_X6_read_0 _ _ _ _ h)
