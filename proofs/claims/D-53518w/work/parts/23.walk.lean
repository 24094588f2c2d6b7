set_option maxRecDepth 100000
def dkwX6_entriesBy_1 : List UInt8 := [182, 0, 53, 96, 61, 132, 3, 1, 167, 255, 229, 28, 172]
abbrev dktX6_entriesBy_1 : List UInt8 := dkwX6_entriesBy_1 ++ []
def dkwX6_entriesBy_0 : List UInt8 := [3, 61, 3, 62, 29, 42, 27, 5, 182, 0, 53, 162, 0, 23, 28, 42, 42, 27, 29, 182, 0, 75, 5]
abbrev dktX6_entriesBy_0 : List UInt8 := dkwX6_entriesBy_0 ++ dktX6_entriesBy_1
theorem dksX6_entriesBy_0 : cX6_entriesBy.data.toList.drop 0 = dktX6_entriesBy_0 := by decide +kernel
theorem dksX6_entriesBy_1 : cX6_entriesBy.data.toList.drop 23 = dktX6_entriesBy_1 := dk_seg dksX6_entriesBy_0 23 rfl rfl
theorem dX6_entriesBy_0 : decode cX6_entriesBy 0 = .ok (.iconst 0, 1) := dk_3 (dk_at dksX6_entriesBy_0 0 rfl rfl)
theorem dX6_entriesBy_1 : decode cX6_entriesBy 1 = .ok (.istore_n 2, 1) := dk_61 (dk_at dksX6_entriesBy_0 1 rfl rfl)
theorem dX6_entriesBy_2 : decode cX6_entriesBy 2 = .ok (.iconst 0, 1) := dk_3 (dk_at dksX6_entriesBy_0 2 rfl rfl)
theorem dX6_entriesBy_3 : decode cX6_entriesBy 3 = .ok (.istore_n 3, 1) := dk_62 (dk_at dksX6_entriesBy_0 3 rfl rfl)
theorem dX6_entriesBy_4 : decode cX6_entriesBy 4 = .ok (.iload_n 3, 1) := dk_29 (dk_at dksX6_entriesBy_0 4 rfl rfl)
theorem dX6_entriesBy_5 : decode cX6_entriesBy 5 = .ok (.aload_n 0, 1) := dk_42 (dk_at dksX6_entriesBy_0 5 rfl rfl)
theorem dX6_entriesBy_6 : decode cX6_entriesBy 6 = .ok (.iload_n 1, 1) := dk_27 (dk_at dksX6_entriesBy_0 6 rfl rfl)
theorem dX6_entriesBy_7 : decode cX6_entriesBy 7 = .ok (.iconst 2, 1) := dk_5 (dk_at dksX6_entriesBy_0 7 rfl rfl)
theorem dX6_entriesBy_8 : decode cX6_entriesBy 8 = .ok (.invokevirtual 53, 3) := dk_182 0 53 (dk_at dksX6_entriesBy_0 8 rfl rfl)
theorem dX6_entriesBy_11 : decode cX6_entriesBy 11 = .ok (.if_icmp .ge 23, 3) := dk_162 0 23 (dk_at dksX6_entriesBy_0 11 rfl rfl)
theorem dX6_entriesBy_14 : decode cX6_entriesBy 14 = .ok (.iload_n 2, 1) := dk_28 (dk_at dksX6_entriesBy_0 14 rfl rfl)
theorem dX6_entriesBy_15 : decode cX6_entriesBy 15 = .ok (.aload_n 0, 1) := dk_42 (dk_at dksX6_entriesBy_0 15 rfl rfl)
theorem dX6_entriesBy_16 : decode cX6_entriesBy 16 = .ok (.aload_n 0, 1) := dk_42 (dk_at dksX6_entriesBy_0 16 rfl rfl)
theorem dX6_entriesBy_17 : decode cX6_entriesBy 17 = .ok (.iload_n 1, 1) := dk_27 (dk_at dksX6_entriesBy_0 17 rfl rfl)
theorem dX6_entriesBy_18 : decode cX6_entriesBy 18 = .ok (.iload_n 3, 1) := dk_29 (dk_at dksX6_entriesBy_0 18 rfl rfl)
theorem dX6_entriesBy_19 : decode cX6_entriesBy 19 = .ok (.invokevirtual 75, 3) := dk_182 0 75 (dk_at dksX6_entriesBy_0 19 rfl rfl)
theorem dX6_entriesBy_22 : decode cX6_entriesBy 22 = .ok (.iconst 2, 1) := dk_5 (dk_at dksX6_entriesBy_0 22 rfl rfl)
theorem dX6_entriesBy_23 : decode cX6_entriesBy 23 = .ok (.invokevirtual 53, 3) := dk_182 0 53 (dk_at dksX6_entriesBy_1 0 rfl rfl)
theorem dX6_entriesBy_26 : decode cX6_entriesBy 26 = .ok (.iadd, 1) := dk_96 (dk_at dksX6_entriesBy_1 3 rfl rfl)
theorem dX6_entriesBy_27 : decode cX6_entriesBy 27 = .ok (.istore_n 2, 1) := dk_61 (dk_at dksX6_entriesBy_1 4 rfl rfl)
theorem dX6_entriesBy_28 : decode cX6_entriesBy 28 = .ok (.iinc 3 1, 3) := dk_132 3 1 (dk_at dksX6_entriesBy_1 5 rfl rfl)
theorem dX6_entriesBy_31 : decode cX6_entriesBy 31 = .ok (.goto (-27), 3) := dk_167 255 229 (dk_at dksX6_entriesBy_1 8 rfl rfl)
theorem dX6_entriesBy_34 : decode cX6_entriesBy 34 = .ok (.iload_n 2, 1) := dk_28 (dk_at dksX6_entriesBy_1 11 rfl rfl)
theorem dX6_entriesBy_35 : decode cX6_entriesBy 35 = .ok (.ireturn, 1) := dk_172 (dk_at dksX6_entriesBy_1 12 rfl rfl)
/-! PageGardenModel.entriesBy(I)I -/
abbrev M_X6_entriesBy (z0 n0 : Nat) (s' : gS) : gM := (RX6, cX6_entriesBy, 4, (some FieldType.int), "entriesBy", [], 3, z0, n0, s'.2.1, s'.2.2)
abbrev W_X6_entriesBy (E : gE) (z0 n0 : Nat) (r : Int32) (s' : gS) (pc : Nat) (L : List (Nat × gV)) (st : List gV) (s : gS) : Prop := gW E (M_X6_entriesBy z0 n0 s') (gQm E (M_X6_entriesBy z0 n0 s') (.inl (some (vI r))) s') pc L st s
noncomputable def f_X6_entriesBy_4b (κ : gK) (F : Nat) (k4 : Option Nat → Int32 → Int32 → Int32 → gS → Option (Int32 × gS)) (l0 : Option Nat) (l1 : Int32) (l2 : Int32) (l3 : Int32) (s : gS) : Option (Int32 × gS) :=
  gB1 (gck s l0 9) fun _ =>
  gB2 (f_X6_of κ F l0 l1 (2 : Int32) s) fun v2 s1 =>
  if v2 ≤ l3 then
    some (l2, s1)
  else
    gB1 (gck s1 l0 9) fun _ =>
    gB2 (f_X6_leafAt κ F l0 l1 l3 s1) fun v5 s4 =>
    gB1 (gck s4 l0 9) fun _ =>
    gB2 (f_X6_of κ F l0 v5 (2 : Int32) s4) fun v8 s7 =>
    k4 l0 l1 (l2 + v8) (l3 + (1 : Int32)) s7
noncomputable def f_X6_entriesBy_4 (κ : gK) (F : Nat)  : Nat → Option Nat → Int32 → Int32 → Int32 → gS → Option (Int32 × gS)
  | 0 => fun _ _ _ _ _ => none
  | n + 1 => f_X6_entriesBy_4b κ F  (f_X6_entriesBy_4 κ F  n)
set_option maxHeartbeats 4000000 in
theorem w_X6_entriesBy_4b {E : gE} {F z0 n0 : Nat} {r : Int32} {s' : gS} {k4 : Option Nat → Int32 → Int32 → Int32 → gS → Option (Int32 × gS)} (hk4 : ∀ (l0 : Option Nat) (l1 : Int32) (l2 : Int32) (l3 : Int32) (s : gS), k4 l0 l1 l2 l3 s = some (r, s') → W_X6_entriesBy E z0 n0 r s' 4 [(0, vR l0), (1, vI l1), (2, vI l2), (3, vI l3)] [] s) : ∀ (l0 : Option Nat) (l1 : Int32) (l2 : Int32) (l3 : Int32)  (s : gS), f_X6_entriesBy_4b (gk E) F k4 l0 l1 l2 l3 s = some (r, s') → W_X6_entriesBy E z0 n0 r s' 4 [(0, vR l0), (1, vI l1), (2, vI l2), (3, vI l3)] [] s := by
  intro l0 l1 l2 l3 s hB
  unfold f_X6_entriesBy_4b at hB
  refine gw_iload_n 3 rfl dX6_entriesBy_4 ?_
  refine gw_aload_n 0 rfl dX6_entriesBy_5 ?_
  refine gw_iload_n 1 rfl dX6_entriesBy_6 ?_
  refine gw_iconst (v := (2 : Int32)) (by decide) dX6_entriesBy_7 ?_
  obtain ⟨u0, hu3, hB⟩ := gB1_some hB
  obtain ⟨v2, s1, hv2, hB⟩ := gB2_some hB
  refine gw_callV (y := yX6_of) (lw_V q2796 q2798 qs58 q143 q2799) hdV_X6_of gcl9 hu3 (As := [vI l1, vI (2 : Int32)]) (rest := [vI l3]) (m_X6_of _ _ _ _ _ _ hv2) (Nat.le_of_ble_eq_true rfl) (Nat.le_of_ble_eq_true rfl) rfl (Nat.le_of_ble_eq_true rfl) dX6_entriesBy_8 (gCont_i ?_)
  refine gw_icmp_ge (tgt := 34) dX6_entriesBy_11 (by decide) (fun hcnd => ?_) (fun hcnd => ?_)
  · rw [if_pos hcnd] at hB
    refine gw_iload_n 2 rfl dX6_entriesBy_34 ?_
    obtain ⟨rfl, rfl⟩ := Prod.mk.inj (Option.some.inj hB)
    exact gw_iret rfl rfl rfl dX6_entriesBy_35
  · rw [if_neg hcnd] at hB
    refine gw_iload_n 2 rfl dX6_entriesBy_14 ?_
    refine gw_aload_n 0 rfl dX6_entriesBy_15 ?_
    refine gw_aload_n 0 rfl dX6_entriesBy_16 ?_
    refine gw_iload_n 1 rfl dX6_entriesBy_17 ?_
    refine gw_iload_n 3 rfl dX6_entriesBy_18 ?_
    obtain ⟨u0, hu6, hB⟩ := gB1_some hB
    obtain ⟨v5, s4, hv5, hB⟩ := gB2_some hB
    refine gw_callV (y := yX6_leafAt) (lw_V q2800 q2802 qs59 q143 q2803) hdV_X6_leafAt gcl9 hu6 (As := [vI l1, vI l3]) (rest := [vR l0, vI l2]) (m_X6_leafAt _ _ _ _ _ _ hv5) (Nat.le_of_ble_eq_true rfl) (Nat.le_of_ble_eq_true rfl) rfl (Nat.le_of_ble_eq_true rfl) dX6_entriesBy_19 (gCont_i ?_)
    refine gw_iconst (v := (2 : Int32)) (by decide) dX6_entriesBy_22 ?_
    obtain ⟨u0, hu9, hB⟩ := gB1_some hB
    obtain ⟨v8, s7, hv8, hB⟩ := gB2_some hB
    refine gw_callV (y := yX6_of) (lw_V q2796 q2798 qs58 q143 q2799) hdV_X6_of gcl9 hu9 (As := [vI v5, vI (2 : Int32)]) (rest := [vI l2]) (m_X6_of _ _ _ _ _ _ hv8) (Nat.le_of_ble_eq_true rfl) (Nat.le_of_ble_eq_true rfl) rfl (Nat.le_of_ble_eq_true rfl) dX6_entriesBy_23 (gCont_i ?_)
    refine gw_iadd dX6_entriesBy_26 ?_
    refine gw_istore_n (L' := [(2, vI (l2 + v8)), (0, vR l0), (1, vI l1), (3, vI l3)]) (Nat.le_of_ble_eq_true rfl) rfl dX6_entriesBy_27 ?_
    refine gw_iinc (w := (1 : Int32)) (L' := [(3, vI (l3 + (1 : Int32))), (2, vI (l2 + v8)), (0, vR l0), (1, vI l1)]) 3 rfl (by decide) (Nat.le_of_ble_eq_true rfl) rfl dX6_entriesBy_28 ?_
    refine gw_goto (tgt := 4) dX6_entriesBy_31 (by decide) ?_
    exact gw_sub [2, 3, 1, 0] rfl (hk4 _ _ _ _ _ hB)
theorem w_X6_entriesBy_4 {E : gE} {F z0 n0 : Nat} {r : Int32} {s' : gS}   : ∀ (n : Nat) (l0 : Option Nat) (l1 : Int32) (l2 : Int32) (l3 : Int32)  (s : gS), f_X6_entriesBy_4 (gk E) F  n l0 l1 l2 l3 s = some (r, s') → W_X6_entriesBy E z0 n0 r s' 4 [(0, vR l0), (1, vI l1), (2, vI l2), (3, vI l3)] [] s := by
  intro n
  induction n with
  | zero => intro l0 l1 l2 l3 s hB; cases hB
  | succ n ih => intro l0 l1 l2 l3 s hB; exact w_X6_entriesBy_4b ih l0 l1 l2 l3 s hB
noncomputable def f_X6_entriesBy_0 (κ : gK) (F : Nat)  (l0 : Option Nat) (l1 : Int32) (s : gS) : Option (Int32 × gS) :=
  f_X6_entriesBy_4 κ F  F l0 l1 (0 : Int32) (0 : Int32) s
set_option maxHeartbeats 4000000 in
theorem w_X6_entriesBy_0 {E : gE} {F z0 n0 : Nat} {r : Int32} {s' : gS}   : ∀ (l0 : Option Nat) (l1 : Int32)  (s : gS), f_X6_entriesBy_0 (gk E) F  l0 l1 s = some (r, s') → W_X6_entriesBy E z0 n0 r s' 0 [(0, vR l0), (1, vI l1)] [] s := by
  intro l0 l1 s hB
  unfold f_X6_entriesBy_0 at hB
  refine gw_iconst (v := (0 : Int32)) (by decide) dX6_entriesBy_0 ?_
  refine gw_istore_n (L' := [(2, vI (0 : Int32)), (0, vR l0), (1, vI l1)]) (Nat.le_of_ble_eq_true rfl) rfl dX6_entriesBy_1 ?_
  refine gw_iconst (v := (0 : Int32)) (by decide) dX6_entriesBy_2 ?_
  refine gw_istore_n (L' := [(3, vI (0 : Int32)), (2, vI (0 : Int32)), (0, vR l0), (1, vI l1)]) (Nat.le_of_ble_eq_true rfl) rfl dX6_entriesBy_3 ?_
  exact gw_sub [2, 3, 1, 0] rfl (w_X6_entriesBy_4  F _ _ _ _ _ hB)
noncomputable def f_X6_entriesBy (κ : gK) (F : Nat) (a0 : Option Nat) (a1 : Int32) (s : gS) : Option (Int32 × gS) := f_X6_entriesBy_0 κ F a0 a1 s
theorem m_X6_entriesBy {E : gE} {F : Nat} (a0 : Option Nat) (a1 : Int32) (s : gS) (r : Int32) (s' : gS) (h : f_X6_entriesBy (gk E) F a0 a1 s = some (r, s')) : gCT E 3 yX6_entriesBy (ws_ yX6_entriesBy cX6_entriesBy 4 (some FieldType.int)) [vR a0, vI a1] s (.inl (some (vI r))) s' := by
  refine gCT_of2 (fun h => absurd h (by decide)) (plainFor_of_name (by decide)) (Nat.le_of_ble_eq_true rfl) ?_
  exact gw_sub [0, 1] rfl (w_X6_entriesBy_0 _ _ _ h)
def dkwX6_tellEntry_4 : List UInt8 := [21, 5, 167, 0, 4, 29, 172]
abbrev dktX6_tellEntry_4 : List UInt8 := dkwX6_tellEntry_4 ++ []
def dkwX6_tellEntry_3 : List UInt8 := [167, 0, 29, 28, 4, 160, 0, 13, 42, 21, 5, 29, 182, 0, 87, 167, 0, 14, 28, 5, 160, 0, 8]
abbrev dktX6_tellEntry_3 : List UInt8 := dkwX6_tellEntry_3 ++ dktX6_tellEntry_4
def dkwX6_tellEntry_2 : List UInt8 := [42, 42, 182, 0, 90, 21, 4, 182, 0, 75, 54, 5, 28, 154, 0, 13, 42, 21, 5, 29, 182, 0, 78]
abbrev dktX6_tellEntry_2 : List UInt8 := dkwX6_tellEntry_2 ++ dktX6_tellEntry_3
def dkwX6_tellEntry_1 : List UInt8 := [29, 42, 42, 42, 182, 0, 90, 21, 4, 182, 0, 75, 5, 182, 0, 53, 100, 62, 132, 4, 1, 167, 255, 216]
abbrev dktX6_tellEntry_1 : List UInt8 := dkwX6_tellEntry_1 ++ dktX6_tellEntry_2
def dkwX6_tellEntry_0 : List UInt8 := [27, 62, 3, 54, 4, 29, 42, 42, 42, 182, 0, 90, 21, 4, 182, 0, 75, 5, 182, 0, 53, 161, 0, 27]
abbrev dktX6_tellEntry_0 : List UInt8 := dkwX6_tellEntry_0 ++ dktX6_tellEntry_1
theorem dksX6_tellEntry_0 : cX6_tellEntry.data.toList.drop 0 = dktX6_tellEntry_0 := by decide +kernel
theorem dksX6_tellEntry_1 : cX6_tellEntry.data.toList.drop 24 = dktX6_tellEntry_1 := dk_seg dksX6_tellEntry_0 24 rfl rfl
theorem dksX6_tellEntry_2 : cX6_tellEntry.data.toList.drop 48 = dktX6_tellEntry_2 := dk_seg dksX6_tellEntry_1 24 rfl rfl
theorem dksX6_tellEntry_3 : cX6_tellEntry.data.toList.drop 71 = dktX6_tellEntry_3 := dk_seg dksX6_tellEntry_2 23 rfl rfl
theorem dksX6_tellEntry_4 : cX6_tellEntry.data.toList.drop 94 = dktX6_tellEntry_4 := dk_seg dksX6_tellEntry_3 23 rfl rfl
theorem dX6_tellEntry_0 : decode cX6_tellEntry 0 = .ok (.iload_n 1, 1) := dk_27 (dk_at dksX6_tellEntry_0 0 rfl rfl)
theorem dX6_tellEntry_1 : decode cX6_tellEntry 1 = .ok (.istore_n 3, 1) := dk_62 (dk_at dksX6_tellEntry_0 1 rfl rfl)
theorem dX6_tellEntry_2 : decode cX6_tellEntry 2 = .ok (.iconst 0, 1) := dk_3 (dk_at dksX6_tellEntry_0 2 rfl rfl)
theorem dX6_tellEntry_3 : decode cX6_tellEntry 3 = .ok (.istore 4, 2) := dk_54 4 (dk_at dksX6_tellEntry_0 3 rfl rfl)
theorem dX6_tellEntry_5 : decode cX6_tellEntry 5 = .ok (.iload_n 3, 1) := dk_29 (dk_at dksX6_tellEntry_0 5 rfl rfl)
theorem dX6_tellEntry_6 : decode cX6_tellEntry 6 = .ok (.aload_n 0, 1) := dk_42 (dk_at dksX6_tellEntry_0 6 rfl rfl)
theorem dX6_tellEntry_7 : decode cX6_tellEntry 7 = .ok (.aload_n 0, 1) := dk_42 (dk_at dksX6_tellEntry_0 7 rfl rfl)
theorem dX6_tellEntry_8 : decode cX6_tellEntry 8 = .ok (.aload_n 0, 1) := dk_42 (dk_at dksX6_tellEntry_0 8 rfl rfl)
theorem dX6_tellEntry_9 : decode cX6_tellEntry 9 = .ok (.invokevirtual 90, 3) := dk_182 0 90 (dk_at dksX6_tellEntry_0 9 rfl rfl)
theorem dX6_tellEntry_12 : decode cX6_tellEntry 12 = .ok (.iload 4, 2) := dk_21 4 (dk_at dksX6_tellEntry_0 12 rfl rfl)
theorem dX6_tellEntry_14 : decode cX6_tellEntry 14 = .ok (.invokevirtual 75, 3) := dk_182 0 75 (dk_at dksX6_tellEntry_0 14 rfl rfl)
theorem dX6_tellEntry_17 : decode cX6_tellEntry 17 = .ok (.iconst 2, 1) := dk_5 (dk_at dksX6_tellEntry_0 17 rfl rfl)
theorem dX6_tellEntry_18 : decode cX6_tellEntry 18 = .ok (.invokevirtual 53, 3) := dk_182 0 53 (dk_at dksX6_tellEntry_0 18 rfl rfl)
theorem dX6_tellEntry_21 : decode cX6_tellEntry 21 = .ok (.if_icmp .lt 27, 3) := dk_161 0 27 (dk_at dksX6_tellEntry_0 21 rfl rfl)
theorem dX6_tellEntry_24 : decode cX6_tellEntry 24 = .ok (.iload_n 3, 1) := dk_29 (dk_at dksX6_tellEntry_1 0 rfl rfl)
theorem dX6_tellEntry_25 : decode cX6_tellEntry 25 = .ok (.aload_n 0, 1) := dk_42 (dk_at dksX6_tellEntry_1 1 rfl rfl)
theorem dX6_tellEntry_26 : decode cX6_tellEntry 26 = .ok (.aload_n 0, 1) := dk_42 (dk_at dksX6_tellEntry_1 2 rfl rfl)
theorem dX6_tellEntry_27 : decode cX6_tellEntry 27 = .ok (.aload_n 0, 1) := dk_42 (dk_at dksX6_tellEntry_1 3 rfl rfl)
theorem dX6_tellEntry_28 : decode cX6_tellEntry 28 = .ok (.invokevirtual 90, 3) := dk_182 0 90 (dk_at dksX6_tellEntry_1 4 rfl rfl)
theorem dX6_tellEntry_31 : decode cX6_tellEntry 31 = .ok (.iload 4, 2) := dk_21 4 (dk_at dksX6_tellEntry_1 7 rfl rfl)
theorem dX6_tellEntry_33 : decode cX6_tellEntry 33 = .ok (.invokevirtual 75, 3) := dk_182 0 75 (dk_at dksX6_tellEntry_1 9 rfl rfl)
theorem dX6_tellEntry_36 : decode cX6_tellEntry 36 = .ok (.iconst 2, 1) := dk_5 (dk_at dksX6_tellEntry_1 12 rfl rfl)
theorem dX6_tellEntry_37 : decode cX6_tellEntry 37 = .ok (.invokevirtual 53, 3) := dk_182 0 53 (dk_at dksX6_tellEntry_1 13 rfl rfl)
theorem dX6_tellEntry_40 : decode cX6_tellEntry 40 = .ok (.isub, 1) := dk_100 (dk_at dksX6_tellEntry_1 16 rfl rfl)
theorem dX6_tellEntry_41 : decode cX6_tellEntry 41 = .ok (.istore_n 3, 1) := dk_62 (dk_at dksX6_tellEntry_1 17 rfl rfl)
theorem dX6_tellEntry_42 : decode cX6_tellEntry 42 = .ok (.iinc 4 1, 3) := dk_132 4 1 (dk_at dksX6_tellEntry_1 18 rfl rfl)
theorem dX6_tellEntry_45 : decode cX6_tellEntry 45 = .ok (.goto (-40), 3) := dk_167 255 216 (dk_at dksX6_tellEntry_1 21 rfl rfl)
theorem dX6_tellEntry_48 : decode cX6_tellEntry 48 = .ok (.aload_n 0, 1) := dk_42 (dk_at dksX6_tellEntry_2 0 rfl rfl)
theorem dX6_tellEntry_49 : decode cX6_tellEntry 49 = .ok (.aload_n 0, 1) := dk_42 (dk_at dksX6_tellEntry_2 1 rfl rfl)
theorem dX6_tellEntry_50 : decode cX6_tellEntry 50 = .ok (.invokevirtual 90, 3) := dk_182 0 90 (dk_at dksX6_tellEntry_2 2 rfl rfl)
theorem dX6_tellEntry_53 : decode cX6_tellEntry 53 = .ok (.iload 4, 2) := dk_21 4 (dk_at dksX6_tellEntry_2 5 rfl rfl)
theorem dX6_tellEntry_55 : decode cX6_tellEntry 55 = .ok (.invokevirtual 75, 3) := dk_182 0 75 (dk_at dksX6_tellEntry_2 7 rfl rfl)
theorem dX6_tellEntry_58 : decode cX6_tellEntry 58 = .ok (.istore 5, 2) := dk_54 5 (dk_at dksX6_tellEntry_2 10 rfl rfl)
theorem dX6_tellEntry_60 : decode cX6_tellEntry 60 = .ok (.iload_n 2, 1) := dk_28 (dk_at dksX6_tellEntry_2 12 rfl rfl)
theorem dX6_tellEntry_61 : decode cX6_tellEntry 61 = .ok (.ifCond .ne 13, 3) := dk_154 0 13 (dk_at dksX6_tellEntry_2 13 rfl rfl)
theorem dX6_tellEntry_64 : decode cX6_tellEntry 64 = .ok (.aload_n 0, 1) := dk_42 (dk_at dksX6_tellEntry_2 16 rfl rfl)
theorem dX6_tellEntry_65 : decode cX6_tellEntry 65 = .ok (.iload 5, 2) := dk_21 5 (dk_at dksX6_tellEntry_2 17 rfl rfl)
theorem dX6_tellEntry_67 : decode cX6_tellEntry 67 = .ok (.iload_n 3, 1) := dk_29 (dk_at dksX6_tellEntry_2 19 rfl rfl)
theorem dX6_tellEntry_68 : decode cX6_tellEntry 68 = .ok (.invokevirtual 78, 3) := dk_182 0 78 (dk_at dksX6_tellEntry_2 20 rfl rfl)
theorem dX6_tellEntry_71 : decode cX6_tellEntry 71 = .ok (.goto 29, 3) := dk_167 0 29 (dk_at dksX6_tellEntry_3 0 rfl rfl)
theorem dX6_tellEntry_74 : decode cX6_tellEntry 74 = .ok (.iload_n 2, 1) := dk_28 (dk_at dksX6_tellEntry_3 3 rfl rfl)
theorem dX6_tellEntry_75 : decode cX6_tellEntry 75 = .ok (.iconst 1, 1) := dk_4 (dk_at dksX6_tellEntry_3 4 rfl rfl)
theorem dX6_tellEntry_76 : decode cX6_tellEntry 76 = .ok (.if_icmp .ne 13, 3) := dk_160 0 13 (dk_at dksX6_tellEntry_3 5 rfl rfl)
theorem dX6_tellEntry_79 : decode cX6_tellEntry 79 = .ok (.aload_n 0, 1) := dk_42 (dk_at dksX6_tellEntry_3 8 rfl rfl)
theorem dX6_tellEntry_80 : decode cX6_tellEntry 80 = .ok (.iload 5, 2) := dk_21 5 (dk_at dksX6_tellEntry_3 9 rfl rfl)
theorem dX6_tellEntry_82 : decode cX6_tellEntry 82 = .ok (.iload_n 3, 1) := dk_29 (dk_at dksX6_tellEntry_3 11 rfl rfl)
theorem dX6_tellEntry_83 : decode cX6_tellEntry 83 = .ok (.invokevirtual 87, 3) := dk_182 0 87 (dk_at dksX6_tellEntry_3 12 rfl rfl)
theorem dX6_tellEntry_86 : decode cX6_tellEntry 86 = .ok (.goto 14, 3) := dk_167 0 14 (dk_at dksX6_tellEntry_3 15 rfl rfl)
theorem dX6_tellEntry_89 : decode cX6_tellEntry 89 = .ok (.iload_n 2, 1) := dk_28 (dk_at dksX6_tellEntry_3 18 rfl rfl)
theorem dX6_tellEntry_90 : decode cX6_tellEntry 90 = .ok (.iconst 2, 1) := dk_5 (dk_at dksX6_tellEntry_3 19 rfl rfl)
theorem dX6_tellEntry_91 : decode cX6_tellEntry 91 = .ok (.if_icmp .ne 8, 3) := dk_160 0 8 (dk_at dksX6_tellEntry_3 20 rfl rfl)
theorem dX6_tellEntry_94 : decode cX6_tellEntry 94 = .ok (.iload 5, 2) := dk_21 5 (dk_at dksX6_tellEntry_4 0 rfl rfl)
theorem dX6_tellEntry_96 : decode cX6_tellEntry 96 = .ok (.goto 4, 3) := dk_167 0 4 (dk_at dksX6_tellEntry_4 2 rfl rfl)
theorem dX6_tellEntry_99 : decode cX6_tellEntry 99 = .ok (.iload_n 3, 1) := dk_29 (dk_at dksX6_tellEntry_4 5 rfl rfl)
theorem dX6_tellEntry_100 : decode cX6_tellEntry 100 = .ok (.ireturn, 1) := dk_172 (dk_at dksX6_tellEntry_4 6 rfl rfl)
/-! PageGardenModel.tellEntry(II)I -/
abbrev M_X6_tellEntry (z0 n0 : Nat) (s' : gS) : gM := (RX6, cX6_tellEntry, 6, (some FieldType.int), "tellEntry", [], 3, z0, n0, s'.2.1, s'.2.2)
abbrev W_X6_tellEntry (E : gE) (z0 n0 : Nat) (r : Int32) (s' : gS) (pc : Nat) (L : List (Nat × gV)) (st : List gV) (s : gS) : Prop := gW E (M_X6_tellEntry z0 n0 s') (gQm E (M_X6_tellEntry z0 n0 s') (.inl (some (vI r))) s') pc L st s
noncomputable def f_X6_tellEntry_100 (κ : gK) (F : Nat)  (t0 : Int32) (s : gS) : Option (Int32 × gS) :=
  some (t0, s)
set_option maxHeartbeats 4000000 in
theorem w_X6_tellEntry_100 {E : gE} {F z0 n0 : Nat} {r : Int32} {s' : gS}   : ∀  (t0 : Int32) (s : gS), f_X6_tellEntry_100 (gk E) F  t0 s = some (r, s') → W_X6_tellEntry E z0 n0 r s' 100 [] [vI t0] s := by
  intro t0 s hB
  unfold f_X6_tellEntry_100 at hB
  obtain ⟨rfl, rfl⟩ := Prod.mk.inj (Option.some.inj hB)
  exact gw_iret rfl rfl rfl dX6_tellEntry_100
noncomputable def f_X6_tellEntry_5b (κ : gK) (F : Nat) (k5 : Option Nat → Int32 → Int32 → Int32 → gS → Option (Int32 × gS)) (l0 : Option Nat) (l2 : Int32) (l3 : Int32) (l4 : Int32) (s : gS) : Option (Int32 × gS) :=
  gB1 (gck s l0 9) fun _ =>
  gB2 (f_X6_now κ F l0  s) fun v2 s1 =>
  gB1 (gck s1 l0 9) fun _ =>
  gB2 (f_X6_leafAt κ F l0 v2 l4 s1) fun v5 s4 =>
  gB1 (gck s4 l0 9) fun _ =>
  gB2 (f_X6_of κ F l0 v5 (2 : Int32) s4) fun v8 s7 =>
  if l3 < v8 then
    gB1 (gck s7 l0 9) fun _ =>
    gB2 (f_X6_now κ F l0  s7) fun v11 s10 =>
    gB1 (gck s10 l0 9) fun _ =>
    gB2 (f_X6_leafAt κ F l0 v11 l4 s10) fun v14 s13 =>
    if l2 = 0 then
      gB1 (gck s13 l0 9) fun _ =>
      gB2 (f_X6_keyAt κ F l0 v14 l3 s13) fun v20 s19 =>
      f_X6_tellEntry_100 κ F  v20 s19
    else
      if l2 = (1 : Int32) then
        gB1 (gck s13 l0 9) fun _ =>
        gB2 (f_X6_valueAt κ F l0 v14 l3 s13) fun v17 s16 =>
        f_X6_tellEntry_100 κ F  v17 s16
      else
        if l2 = (2 : Int32) then
          f_X6_tellEntry_100 κ F  v14 s13
        else
          f_X6_tellEntry_100 κ F  l3 s13
  else
    gB1 (gck s7 l0 9) fun _ =>
    gB2 (f_X6_now κ F l0  s7) fun v23 s22 =>
    gB1 (gck s22 l0 9) fun _ =>
    gB2 (f_X6_leafAt κ F l0 v23 l4 s22) fun v26 s25 =>
    gB1 (gck s25 l0 9) fun _ =>
    gB2 (f_X6_of κ F l0 v26 (2 : Int32) s25) fun v29 s28 =>
    k5 l0 l2 (l3 - v29) (l4 + (1 : Int32)) s28
noncomputable def f_X6_tellEntry_5 (κ : gK) (F : Nat)  : Nat → Option Nat → Int32 → Int32 → Int32 → gS → Option (Int32 × gS)
  | 0 => fun _ _ _ _ _ => none
  | n + 1 => f_X6_tellEntry_5b κ F  (f_X6_tellEntry_5 κ F  n)
set_option maxHeartbeats 4000000 in
theorem w_X6_tellEntry_5b {E : gE} {F z0 n0 : Nat} {r : Int32} {s' : gS} {k5 : Option Nat → Int32 → Int32 → Int32 → gS → Option (Int32 × gS)} (hk5 : ∀ (l0 : Option Nat) (l2 : Int32) (l3 : Int32) (l4 : Int32) (s : gS), k5 l0 l2 l3 l4 s = some (r, s') → W_X6_tellEntry E z0 n0 r s' 5 [(0, vR l0), (2, vI l2), (3, vI l3), (4, vI l4)] [] s) : ∀ (l0 : Option Nat) (l2 : Int32) (l3 : Int32) (l4 : Int32)  (s : gS), f_X6_tellEntry_5b (gk E) F k5 l0 l2 l3 l4 s = some (r, s') → W_X6_tellEntry E z0 n0 r s' 5 [(0, vR l0), (2, vI l2), (3, vI l3), (4, vI l4)] [] s := by
  intro l0 l2 l3 l4 s hB
  unfold f_X6_tellEntry_5b at hB
  refine gw_iload_n 2 rfl dX6_tellEntry_5 ?_
  refine gw_aload_n 0 rfl dX6_tellEntry_6 ?_
  refine gw_aload_n 0 rfl dX6_tellEntry_7 ?_
  refine gw_aload_n 0 rfl dX6_tellEntry_8 ?_
  obtain ⟨u0, hu3, hB⟩ := gB1_some hB
  obtain ⟨v2, s1, hv2, hB⟩ := gB2_some hB
  refine gw_callV (y := yX6_now) (lw_V q2788 q2790 qs56 q143 q2791) hdV_X6_now gcl9 hu3 (As := []) (rest := [vR l0, vR l0, vI l3]) (m_X6_now _ _ _ _ hv2) (Nat.le_of_ble_eq_true rfl) (Nat.le_of_ble_eq_true rfl) rfl (Nat.le_of_ble_eq_true rfl) dX6_tellEntry_9 (gCont_i ?_)
  refine gw_iload 3 rfl dX6_tellEntry_12 ?_
  obtain ⟨u0, hu6, hB⟩ := gB1_some hB
  obtain ⟨v5, s4, hv5, hB⟩ := gB2_some hB
  refine gw_callV (y := yX6_leafAt) (lw_V q2800 q2802 qs59 q143 q2803) hdV_X6_leafAt gcl9 hu6 (As := [vI v2, vI l4]) (rest := [vR l0, vI l3]) (m_X6_leafAt _ _ _ _ _ _ hv5) (Nat.le_of_ble_eq_true rfl) (Nat.le_of_ble_eq_true rfl) rfl (Nat.le_of_ble_eq_true rfl) dX6_tellEntry_14 (gCont_i ?_)
  refine gw_iconst (v := (2 : Int32)) (by decide) dX6_tellEntry_17 ?_
  obtain ⟨u0, hu9, hB⟩ := gB1_some hB
  obtain ⟨v8, s7, hv8, hB⟩ := gB2_some hB
  refine gw_callV (y := yX6_of) (lw_V q2796 q2798 qs58 q143 q2799) hdV_X6_of gcl9 hu9 (As := [vI v5, vI (2 : Int32)]) (rest := [vI l3]) (m_X6_of _ _ _ _ _ _ hv8) (Nat.le_of_ble_eq_true rfl) (Nat.le_of_ble_eq_true rfl) rfl (Nat.le_of_ble_eq_true rfl) dX6_tellEntry_18 (gCont_i ?_)
  refine gw_icmp_lt (tgt := 48) dX6_tellEntry_21 (by decide) (fun hcnd => ?_) (fun hcnd => ?_)
  · rw [if_pos hcnd] at hB
    refine gw_aload_n 0 rfl dX6_tellEntry_48 ?_
    refine gw_aload_n 0 rfl dX6_tellEntry_49 ?_
    obtain ⟨u0, hu12, hB⟩ := gB1_some hB
    obtain ⟨v11, s10, hv11, hB⟩ := gB2_some hB
    refine gw_callV (y := yX6_now) (lw_V q2788 q2790 qs56 q143 q2791) hdV_X6_now gcl9 hu12 (As := []) (rest := [vR l0]) (m_X6_now _ _ _ _ hv11) (Nat.le_of_ble_eq_true rfl) (Nat.le_of_ble_eq_true rfl) rfl (Nat.le_of_ble_eq_true rfl) dX6_tellEntry_50 (gCont_i ?_)
    refine gw_iload 3 rfl dX6_tellEntry_53 ?_
    obtain ⟨u0, hu15, hB⟩ := gB1_some hB
    obtain ⟨v14, s13, hv14, hB⟩ := gB2_some hB
    refine gw_callV (y := yX6_leafAt) (lw_V q2800 q2802 qs59 q143 q2803) hdV_X6_leafAt gcl9 hu15 (As := [vI v11, vI l4]) (rest := []) (m_X6_leafAt _ _ _ _ _ _ hv14) (Nat.le_of_ble_eq_true rfl) (Nat.le_of_ble_eq_true rfl) rfl (Nat.le_of_ble_eq_true rfl) dX6_tellEntry_55 (gCont_i ?_)
    refine gw_istore (L' := [(5, vI v14), (0, vR l0), (2, vI l2), (3, vI l3), (4, vI l4)]) (Nat.le_of_ble_eq_true rfl) rfl dX6_tellEntry_58 ?_
    refine gw_iload_n 2 rfl dX6_tellEntry_60 ?_
    refine gw_if_ne (tgt := 74) dX6_tellEntry_61 (by decide) (fun hcnd => ?_) (fun hcnd => ?_)
    · rw [if_neg hcnd] at hB
      refine gw_iload_n 2 rfl dX6_tellEntry_74 ?_
      refine gw_iconst (v := (1 : Int32)) (by decide) dX6_tellEntry_75 ?_
      refine gw_icmp_ne (tgt := 89) dX6_tellEntry_76 (by decide) (fun hcnd => ?_) (fun hcnd => ?_)
      · rw [if_neg hcnd] at hB
        refine gw_iload_n 2 rfl dX6_tellEntry_89 ?_
        refine gw_iconst (v := (2 : Int32)) (by decide) dX6_tellEntry_90 ?_
        refine gw_icmp_ne (tgt := 99) dX6_tellEntry_91 (by decide) (fun hcnd => ?_) (fun hcnd => ?_)
        · rw [if_neg hcnd] at hB
          refine gw_iload_n 3 rfl dX6_tellEntry_99 ?_
          exact gw_sub [] rfl (w_X6_tellEntry_100  _ _ hB)
        · rw [if_pos hcnd] at hB
          refine gw_iload 0 rfl dX6_tellEntry_94 ?_
          refine gw_goto (tgt := 100) dX6_tellEntry_96 (by decide) ?_
          exact gw_sub [] rfl (w_X6_tellEntry_100  _ _ hB)
      · rw [if_pos hcnd] at hB
        refine gw_aload_n 1 rfl dX6_tellEntry_79 ?_
        refine gw_iload 0 rfl dX6_tellEntry_80 ?_
        refine gw_iload_n 3 rfl dX6_tellEntry_82 ?_
        obtain ⟨u0, hu18, hB⟩ := gB1_some hB
        obtain ⟨v17, s16, hv17, hB⟩ := gB2_some hB
        refine gw_callV (y := yX6_valueAt) (lw_V q2860 q2862 qs74 q143 q2863) hdV_X6_valueAt gcl9 hu18 (As := [vI v14, vI l3]) (rest := []) (m_X6_valueAt _ _ _ _ _ _ hv17) (Nat.le_of_ble_eq_true rfl) (Nat.le_of_ble_eq_true rfl) rfl (Nat.le_of_ble_eq_true rfl) dX6_tellEntry_83 (gCont_i ?_)
        refine gw_goto (tgt := 100) dX6_tellEntry_86 (by decide) ?_
        exact gw_sub [] rfl (w_X6_tellEntry_100  _ _ hB)
    · rw [if_pos hcnd] at hB
      refine gw_aload_n 1 rfl dX6_tellEntry_64 ?_
      refine gw_iload 0 rfl dX6_tellEntry_65 ?_
      refine gw_iload_n 3 rfl dX6_tellEntry_67 ?_
      obtain ⟨u0, hu21, hB⟩ := gB1_some hB
      obtain ⟨v20, s19, hv20, hB⟩ := gB2_some hB
      refine gw_callV (y := yX6_keyAt) (lw_V q2804 q2806 qs60 q143 q2807) hdV_X6_keyAt gcl9 hu21 (As := [vI v14, vI l3]) (rest := []) (m_X6_keyAt _ _ _ _ _ _ hv20) (Nat.le_of_ble_eq_true rfl) (Nat.le_of_ble_eq_true rfl) rfl (Nat.le_of_ble_eq_true rfl) dX6_tellEntry_68 (gCont_i ?_)
      refine gw_goto (tgt := 100) dX6_tellEntry_71 (by decide) ?_
      exact gw_sub [] rfl (w_X6_tellEntry_100  _ _ hB)
  · rw [if_neg hcnd] at hB
    refine gw_iload_n 2 rfl dX6_tellEntry_24 ?_
    refine gw_aload_n 0 rfl dX6_tellEntry_25 ?_
    refine gw_aload_n 0 rfl dX6_tellEntry_26 ?_
    refine gw_aload_n 0 rfl dX6_tellEntry_27 ?_
    obtain ⟨u0, hu24, hB⟩ := gB1_some hB
    obtain ⟨v23, s22, hv23, hB⟩ := gB2_some hB
    refine gw_callV (y := yX6_now) (lw_V q2788 q2790 qs56 q143 q2791) hdV_X6_now gcl9 hu24 (As := []) (rest := [vR l0, vR l0, vI l3]) (m_X6_now _ _ _ _ hv23) (Nat.le_of_ble_eq_true rfl) (Nat.le_of_ble_eq_true rfl) rfl (Nat.le_of_ble_eq_true rfl) dX6_tellEntry_28 (gCont_i ?_)
    refine gw_iload 3 rfl dX6_tellEntry_31 ?_
    obtain ⟨u0, hu27, hB⟩ := gB1_some hB
    obtain ⟨v26, s25, hv26, hB⟩ := gB2_some hB
    refine gw_callV (y := yX6_leafAt) (lw_V q2800 q2802 qs59 q143 q2803) hdV_X6_leafAt gcl9 hu27 (As := [vI v23, vI l4]) (rest := [vR l0, vI l3]) (m_X6_leafAt _ _ _ _ _ _ hv26) (Nat.le_of_ble_eq_true rfl) (Nat.le_of_ble_eq_true rfl) rfl (Nat.le_of_ble_eq_true rfl) dX6_tellEntry_33 (gCont_i ?_)
    refine gw_iconst (v := (2 : Int32)) (by decide) dX6_tellEntry_36 ?_
    obtain ⟨u0, hu30, hB⟩ := gB1_some hB
    obtain ⟨v29, s28, hv29, hB⟩ := gB2_some hB
    refine gw_callV (y := yX6_of) (lw_V q2796 q2798 qs58 q143 q2799) hdV_X6_of gcl9 hu30 (As := [vI v26, vI (2 : Int32)]) (rest := [vI l3]) (m_X6_of _ _ _ _ _ _ hv29) (Nat.le_of_ble_eq_true rfl) (Nat.le_of_ble_eq_true rfl) rfl (Nat.le_of_ble_eq_true rfl) dX6_tellEntry_37 (gCont_i ?_)
    refine gw_isub dX6_tellEntry_40 ?_
    refine gw_istore_n (L' := [(3, vI (l3 - v29)), (0, vR l0), (2, vI l2), (4, vI l4)]) (Nat.le_of_ble_eq_true rfl) rfl dX6_tellEntry_41 ?_
    refine gw_iinc (w := (1 : Int32)) (L' := [(4, vI (l4 + (1 : Int32))), (3, vI (l3 - v29)), (0, vR l0), (2, vI l2)]) 3 rfl (by decide) (Nat.le_of_ble_eq_true rfl) rfl dX6_tellEntry_42 ?_
    refine gw_goto (tgt := 5) dX6_tellEntry_45 (by decide) ?_
    exact gw_sub [2, 3, 1, 0] rfl (hk5 _ _ _ _ _ hB)
theorem w_X6_tellEntry_5 {E : gE} {F z0 n0 : Nat} {r : Int32} {s' : gS}   : ∀ (n : Nat) (l0 : Option Nat) (l2 : Int32) (l3 : Int32) (l4 : Int32)  (s : gS), f_X6_tellEntry_5 (gk E) F  n l0 l2 l3 l4 s = some (r, s') → W_X6_tellEntry E z0 n0 r s' 5 [(0, vR l0), (2, vI l2), (3, vI l3), (4, vI l4)] [] s := by
  intro n
  induction n with
  | zero => intro l0 l2 l3 l4 s hB; cases hB
  | succ n ih => intro l0 l2 l3 l4 s hB; exact w_X6_tellEntry_5b ih l0 l2 l3 l4 s hB
noncomputable def f_X6_tellEntry_0 (κ : gK) (F : Nat)  (l0 : Option Nat) (l1 : Int32) (l2 : Int32) (s : gS) : Option (Int32 × gS) :=
  f_X6_tellEntry_5 κ F  F l0 l2 l1 (0 : Int32) s
set_option maxHeartbeats 4000000 in
theorem w_X6_tellEntry_0 {E : gE} {F z0 n0 : Nat} {r : Int32} {s' : gS}   : ∀ (l0 : Option Nat) (l1 : Int32) (l2 : Int32)  (s : gS), f_X6_tellEntry_0 (gk E) F  l0 l1 l2 s = some (r, s') → W_X6_tellEntry E z0 n0 r s' 0 [(0, vR l0), (1, vI l1), (2, vI l2)] [] s := by
  intro l0 l1 l2 s hB
  unfold f_X6_tellEntry_0 at hB
  refine gw_iload_n 1 rfl dX6_tellEntry_0 ?_
  refine gw_istore_n (L' := [(3, vI l1), (0, vR l0), (1, vI l1), (2, vI l2)]) (Nat.le_of_ble_eq_true rfl) rfl dX6_tellEntry_1 ?_
  refine gw_iconst (v := (0 : Int32)) (by decide) dX6_tellEntry_2 ?_
  refine gw_istore (L' := [(4, vI (0 : Int32)), (3, vI l1), (0, vR l0), (1, vI l1), (2, vI l2)]) (Nat.le_of_ble_eq_true rfl) rfl dX6_tellEntry_3 ?_
  exact gw_sub [2, 4, 1, 0] rfl (w_X6_tellEntry_5  F _ _ _ _ _ hB)
noncomputable def f_X6_tellEntry (κ : gK) (F : Nat) (a0 : Option Nat) (a1 : Int32) (a2 : Int32) (s : gS) : Option (Int32 × gS) := f_X6_tellEntry_0 κ F a0 a1 a2 s
theorem m_X6_tellEntry {E : gE} {F : Nat} (a0 : Option Nat) (a1 : Int32) (a2 : Int32) (s : gS) (r : Int32) (s' : gS) (h : f_X6_tellEntry (gk E) F a0 a1 a2 s = some (r, s')) : gCT E 3 yX6_tellEntry (ws_ yX6_tellEntry cX6_tellEntry 6 (some FieldType.int)) [vR a0, vI a1, vI a2] s (.inl (some (vI r))) s' := by
  refine gCT_of2 (fun h => absurd h (by decide)) (plainFor_of_name (by decide)) (Nat.le_of_ble_eq_true rfl) ?_
  exact gw_sub [0, 1, 2] rfl (w_X6_tellEntry_0 _ _ _ _ h)
def dkwX6_entry_2 : List UInt8 := [27, 28, 182, 0, 190, 167, 0, 4, 3, 172]
abbrev dktX6_entry_2 : List UInt8 := dkwX6_entry_2 ++ []
def dkwX6_entry_1 : List UInt8 := [3, 6, 184, 0, 113, 154, 0, 7, 5, 167, 0, 4, 3, 181, 0, 28, 42, 180, 0, 28, 154, 0, 12, 42]
abbrev dktX6_entry_1 : List UInt8 := dkwX6_entry_1 ++ dktX6_entry_2
def dkwX6_entry_0 : List UInt8 := [42, 27, 3, 42, 42, 182, 0, 90, 182, 0, 187, 4, 100, 184, 0, 113, 154, 0, 7, 4, 167, 0, 17, 28]
abbrev dktX6_entry_0 : List UInt8 := dkwX6_entry_0 ++ dktX6_entry_1
theorem dksX6_entry_0 : cX6_entry.data.toList.drop 0 = dktX6_entry_0 := by decide +kernel
theorem dksX6_entry_1 : cX6_entry.data.toList.drop 24 = dktX6_entry_1 := dk_seg dksX6_entry_0 24 rfl rfl
theorem dksX6_entry_2 : cX6_entry.data.toList.drop 48 = dktX6_entry_2 := dk_seg dksX6_entry_1 24 rfl rfl
theorem dX6_entry_0 : decode cX6_entry 0 = .ok (.aload_n 0, 1) := dk_42 (dk_at dksX6_entry_0 0 rfl rfl)
theorem dX6_entry_1 : decode cX6_entry 1 = .ok (.iload_n 1, 1) := dk_27 (dk_at dksX6_entry_0 1 rfl rfl)
theorem dX6_entry_2 : decode cX6_entry 2 = .ok (.iconst 0, 1) := dk_3 (dk_at dksX6_entry_0 2 rfl rfl)
theorem dX6_entry_3 : decode cX6_entry 3 = .ok (.aload_n 0, 1) := dk_42 (dk_at dksX6_entry_0 3 rfl rfl)
theorem dX6_entry_4 : decode cX6_entry 4 = .ok (.aload_n 0, 1) := dk_42 (dk_at dksX6_entry_0 4 rfl rfl)
theorem dX6_entry_5 : decode cX6_entry 5 = .ok (.invokevirtual 90, 3) := dk_182 0 90 (dk_at dksX6_entry_0 5 rfl rfl)
theorem dX6_entry_8 : decode cX6_entry 8 = .ok (.invokevirtual 187, 3) := dk_182 0 187 (dk_at dksX6_entry_0 8 rfl rfl)
theorem dX6_entry_11 : decode cX6_entry 11 = .ok (.iconst 1, 1) := dk_4 (dk_at dksX6_entry_0 11 rfl rfl)
theorem dX6_entry_12 : decode cX6_entry 12 = .ok (.isub, 1) := dk_100 (dk_at dksX6_entry_0 12 rfl rfl)
theorem dX6_entry_13 : decode cX6_entry 13 = .ok (.invokestatic 113, 3) := dk_184 0 113 (dk_at dksX6_entry_0 13 rfl rfl)
theorem dX6_entry_16 : decode cX6_entry 16 = .ok (.ifCond .ne 7, 3) := dk_154 0 7 (dk_at dksX6_entry_0 16 rfl rfl)
theorem dX6_entry_19 : decode cX6_entry 19 = .ok (.iconst 1, 1) := dk_4 (dk_at dksX6_entry_0 19 rfl rfl)
theorem dX6_entry_20 : decode cX6_entry 20 = .ok (.goto 17, 3) := dk_167 0 17 (dk_at dksX6_entry_0 20 rfl rfl)
theorem dX6_entry_23 : decode cX6_entry 23 = .ok (.iload_n 2, 1) := dk_28 (dk_at dksX6_entry_0 23 rfl rfl)
theorem dX6_entry_24 : decode cX6_entry 24 = .ok (.iconst 0, 1) := dk_3 (dk_at dksX6_entry_1 0 rfl rfl)
theorem dX6_entry_25 : decode cX6_entry 25 = .ok (.iconst 3, 1) := dk_6 (dk_at dksX6_entry_1 1 rfl rfl)
theorem dX6_entry_26 : decode cX6_entry 26 = .ok (.invokestatic 113, 3) := dk_184 0 113 (dk_at dksX6_entry_1 2 rfl rfl)
theorem dX6_entry_29 : decode cX6_entry 29 = .ok (.ifCond .ne 7, 3) := dk_154 0 7 (dk_at dksX6_entry_1 5 rfl rfl)
theorem dX6_entry_32 : decode cX6_entry 32 = .ok (.iconst 2, 1) := dk_5 (dk_at dksX6_entry_1 8 rfl rfl)
theorem dX6_entry_33 : decode cX6_entry 33 = .ok (.goto 4, 3) := dk_167 0 4 (dk_at dksX6_entry_1 9 rfl rfl)
theorem dX6_entry_36 : decode cX6_entry 36 = .ok (.iconst 0, 1) := dk_3 (dk_at dksX6_entry_1 12 rfl rfl)
theorem dX6_entry_37 : decode cX6_entry 37 = .ok (.putfield 28, 3) := dk_181 0 28 (dk_at dksX6_entry_1 13 rfl rfl)
theorem dX6_entry_40 : decode cX6_entry 40 = .ok (.aload_n 0, 1) := dk_42 (dk_at dksX6_entry_1 16 rfl rfl)
theorem dX6_entry_41 : decode cX6_entry 41 = .ok (.getfield 28, 3) := dk_180 0 28 (dk_at dksX6_entry_1 17 rfl rfl)
theorem dX6_entry_44 : decode cX6_entry 44 = .ok (.ifCond .ne 12, 3) := dk_154 0 12 (dk_at dksX6_entry_1 20 rfl rfl)
theorem dX6_entry_47 : decode cX6_entry 47 = .ok (.aload_n 0, 1) := dk_42 (dk_at dksX6_entry_1 23 rfl rfl)
theorem dX6_entry_48 : decode cX6_entry 48 = .ok (.iload_n 1, 1) := dk_27 (dk_at dksX6_entry_2 0 rfl rfl)
theorem dX6_entry_49 : decode cX6_entry 49 = .ok (.iload_n 2, 1) := dk_28 (dk_at dksX6_entry_2 1 rfl rfl)
theorem dX6_entry_50 : decode cX6_entry 50 = .ok (.invokevirtual 190, 3) := dk_182 0 190 (dk_at dksX6_entry_2 2 rfl rfl)
theorem dX6_entry_53 : decode cX6_entry 53 = .ok (.goto 4, 3) := dk_167 0 4 (dk_at dksX6_entry_2 5 rfl rfl)
theorem dX6_entry_56 : decode cX6_entry 56 = .ok (.iconst 0, 1) := dk_3 (dk_at dksX6_entry_2 8 rfl rfl)
theorem dX6_entry_57 : decode cX6_entry 57 = .ok (.ireturn, 1) := dk_172 (dk_at dksX6_entry_2 9 rfl rfl)
/-! PageGardenModel.entry(II)I -/
abbrev M_X6_entry (z0 n0 : Nat) (s' : gS) : gM := (RX6, cX6_entry, 3, (some FieldType.int), "entry", [], 4, z0, n0, s'.2.1, s'.2.2)
abbrev W_X6_entry (E : gE) (z0 n0 : Nat) (r : Int32) (s' : gS) (pc : Nat) (L : List (Nat × gV)) (st : List gV) (s : gS) : Prop := gW E (M_X6_entry z0 n0 s') (gQm E (M_X6_entry z0 n0 s') (.inl (some (vI r))) s') pc L st s
noncomputable def f_X6_entry_57 (κ : gK) (F : Nat)  (t0 : Int32) (s : gS) : Option (Int32 × gS) :=
  some (t0, s)
set_option maxHeartbeats 4000000 in
theorem w_X6_entry_57 {E : gE} {F z0 n0 : Nat} {r : Int32} {s' : gS}   : ∀  (t0 : Int32) (s : gS), f_X6_entry_57 (gk E) F  t0 s = some (r, s') → W_X6_entry E z0 n0 r s' 57 [] [vI t0] s := by
  intro t0 s hB
  unfold f_X6_entry_57 at hB
  obtain ⟨rfl, rfl⟩ := Prod.mk.inj (Option.some.inj hB)
  exact gw_iret rfl rfl rfl dX6_entry_57
noncomputable def f_X6_entry_37 (κ : gK) (F : Nat)  (l0 : Option Nat) (l1 : Int32) (l2 : Int32) (t0 : Option Nat) (t1 : Int32) (s : gS) : Option (Int32 × gS) :=
  gB1 (gpf κ s t0 9 6 (.int t1)) fun s1 =>
  gB1 (gfI s1 l0 9 6) fun v2 =>
  if v2 = 0 then
    gB1 (gck s1 l0 9) fun _ =>
    gB2 (f_X6_tellEntry κ F l0 l1 l2 s1) fun v4 s3 =>
    f_X6_entry_57 κ F  v4 s3
  else
    f_X6_entry_57 κ F  (0 : Int32) s1
set_option maxHeartbeats 4000000 in
theorem w_X6_entry_37 {E : gE} {F z0 n0 : Nat} {r : Int32} {s' : gS}   : ∀ (l0 : Option Nat) (l1 : Int32) (l2 : Int32) (t0 : Option Nat) (t1 : Int32) (s : gS), f_X6_entry_37 (gk E) F  l0 l1 l2 t0 t1 s = some (r, s') → W_X6_entry E z0 n0 r s' 37 [(0, vR l0), (1, vI l1), (2, vI l2)] [vI t1, vR t0] s := by
  intro l0 l1 l2 t0 t1 s hB
  unfold f_X6_entry_37 at hB
  obtain ⟨s1, hs1, hB⟩ := gB1_some hB
  refine gw_putf (C := RX6) (T := TX6) (N := 13) (k := 6) tyX6 tyX6_ok nmX6 gcl9 (by decide) in_X6 q2700 rfl (tyX6_ok 6 (by decide)) (gNF_i _) hs1 dX6_entry_37 ?_
  refine gw_aload_n 0 rfl dX6_entry_40 ?_
  obtain ⟨v2, hv2, hB⟩ := gB1_some hB
  refine gw_getf (C := RX6) (T := TX6) (N := 13) (k := 6) gcl9 (by decide) in_X6 q2700 (gfI_spec hv2) dX6_entry_41 ?_
  refine gw_if_ne (tgt := 56) dX6_entry_44 (by decide) (fun hcnd => ?_) (fun hcnd => ?_)
  · rw [if_neg hcnd] at hB
    refine gw_iconst (v := (0 : Int32)) (by decide) dX6_entry_56 ?_
    exact gw_sub [] rfl (w_X6_entry_57  _ _ hB)
  · rw [if_pos hcnd] at hB
    refine gw_aload_n 0 rfl dX6_entry_47 ?_
    refine gw_iload_n 1 rfl dX6_entry_48 ?_
    refine gw_iload_n 2 rfl dX6_entry_49 ?_
    obtain ⟨u0, hu5, hB⟩ := gB1_some hB
    obtain ⟨v4, s3, hv4, hB⟩ := gB2_some hB
    refine gw_callV (y := yX6_tellEntry) (lw_V q2966 q2968 qs90 q143 q2969) hdV_X6_tellEntry gcl9 hu5 (As := [vI l1, vI l2]) (rest := []) (m_X6_tellEntry _ _ _ _ _ _ hv4) (Nat.le_of_ble_eq_true rfl) (Nat.le_of_ble_eq_true rfl) rfl (Nat.le_of_ble_eq_true rfl) dX6_entry_50 (gCont_i ?_)
    refine gw_goto (tgt := 57) dX6_entry_53 (by decide) ?_
    exact gw_sub [] rfl (w_X6_entry_57  _ _ hB)
noncomputable def f_X6_entry_0 (κ : gK) (F : Nat)  (l0 : Option Nat) (l1 : Int32) (l2 : Int32) (s : gS) : Option (Int32 × gS) :=
  gB1 (gck s l0 9) fun _ =>
  gB2 (f_X6_now κ F l0  s) fun v2 s1 =>
  gB1 (gck s1 l0 9) fun _ =>
  gB2 (f_X6_entriesBy κ F l0 v2 s1) fun v5 s4 =>
  gB2 (f_X6_in κ F l1 (0 : Int32) (v5 - (1 : Int32)) s4) fun v8 s7 =>
  if v8 = 0 then
    f_X6_entry_37 κ F  l0 l1 l2 l0 (1 : Int32) s7
  else
    gB2 (f_X6_in κ F l2 (0 : Int32) (3 : Int32) s7) fun v10 s9 =>
    if v10 = 0 then
      f_X6_entry_37 κ F  l0 l1 l2 l0 (2 : Int32) s9
    else
      f_X6_entry_37 κ F  l0 l1 l2 l0 (0 : Int32) s9
set_option maxHeartbeats 4000000 in
theorem w_X6_entry_0 {E : gE} {F z0 n0 : Nat} {r : Int32} {s' : gS}   : ∀ (l0 : Option Nat) (l1 : Int32) (l2 : Int32)  (s : gS), f_X6_entry_0 (gk E) F  l0 l1 l2 s = some (r, s') → W_X6_entry E z0 n0 r s' 0 [(0, vR l0), (1, vI l1), (2, vI l2)] [] s := by
  intro l0 l1 l2 s hB
  unfold f_X6_entry_0 at hB
  refine gw_aload_n 0 rfl dX6_entry_0 ?_
  refine gw_iload_n 1 rfl dX6_entry_1 ?_
  refine gw_iconst (v := (0 : Int32)) (by decide) dX6_entry_2 ?_
  refine gw_aload_n 0 rfl dX6_entry_3 ?_
  refine gw_aload_n 0 rfl dX6_entry_4 ?_
  obtain ⟨u0, hu3, hB⟩ := gB1_some hB
  obtain ⟨v2, s1, hv2, hB⟩ := gB2_some hB
  refine gw_callV (y := yX6_now) (lw_V q2788 q2790 qs56 q143 q2791) hdV_X6_now gcl9 hu3 (As := []) (rest := [vR l0, vI (0 : Int32), vI l1, vR l0]) (m_X6_now _ _ _ _ hv2) (Nat.le_of_ble_eq_true rfl) (Nat.le_of_ble_eq_true rfl) rfl (Nat.le_of_ble_eq_true rfl) dX6_entry_5 (gCont_i ?_)
  obtain ⟨u0, hu6, hB⟩ := gB1_some hB
  obtain ⟨v5, s4, hv5, hB⟩ := gB2_some hB
  refine gw_callV (y := yX6_entriesBy) (lw_V q2962 q2964 qs89 q143 q2965) hdV_X6_entriesBy gcl9 hu6 (As := [vI v2]) (rest := [vI (0 : Int32), vI l1, vR l0]) (m_X6_entriesBy _ _ _ _ _ hv5) (Nat.le_of_ble_eq_true rfl) (Nat.le_of_ble_eq_true rfl) rfl (Nat.le_of_ble_eq_true rfl) dX6_entry_8 (gCont_i ?_)
  refine gw_iconst (v := (1 : Int32)) (by decide) dX6_entry_11 ?_
  refine gw_isub dX6_entry_12 ?_
  obtain ⟨v8, s7, hv8, hB⟩ := gB2_some hB
  refine gw_callS (y := yX6_in) (lw_S q2777 q2778 q143 q2779) hdS_X6_in (As := [vI l1, vI (0 : Int32), vI (v5 - (1 : Int32))]) (rest := [vR l0]) (m_X6_in _ _ _ _ _ _ hv8) (Nat.le_of_ble_eq_true rfl) (Nat.le_of_ble_eq_true rfl) rfl (Nat.le_of_ble_eq_true rfl) dX6_entry_13 (gCont_i ?_)
  refine gw_if_ne (tgt := 23) dX6_entry_16 (by decide) (fun hcnd => ?_) (fun hcnd => ?_)
  · rw [if_neg hcnd] at hB
    refine gw_iload_n 2 rfl dX6_entry_23 ?_
    refine gw_iconst (v := (0 : Int32)) (by decide) dX6_entry_24 ?_
    refine gw_iconst (v := (3 : Int32)) (by decide) dX6_entry_25 ?_
    obtain ⟨v10, s9, hv10, hB⟩ := gB2_some hB
    refine gw_callS (y := yX6_in) (lw_S q2777 q2778 q143 q2779) hdS_X6_in (As := [vI l2, vI (0 : Int32), vI (3 : Int32)]) (rest := [vR l0]) (m_X6_in _ _ _ _ _ _ hv10) (Nat.le_of_ble_eq_true rfl) (Nat.le_of_ble_eq_true rfl) rfl (Nat.le_of_ble_eq_true rfl) dX6_entry_26 (gCont_i ?_)
    refine gw_if_ne (tgt := 36) dX6_entry_29 (by decide) (fun hcnd => ?_) (fun hcnd => ?_)
    · rw [if_neg hcnd] at hB
      refine gw_iconst (v := (0 : Int32)) (by decide) dX6_entry_36 ?_
      exact gw_sub [0, 1, 2] rfl (w_X6_entry_37  _ _ _ _ _ _ hB)
    · rw [if_pos hcnd] at hB
      refine gw_iconst (v := (2 : Int32)) (by decide) dX6_entry_32 ?_
      refine gw_goto (tgt := 37) dX6_entry_33 (by decide) ?_
      exact gw_sub [0, 1, 2] rfl (w_X6_entry_37  _ _ _ _ _ _ hB)
  · rw [if_pos hcnd] at hB
    refine gw_iconst (v := (1 : Int32)) (by decide) dX6_entry_19 ?_
    refine gw_goto (tgt := 37) dX6_entry_20 (by decide) ?_
    exact gw_sub [0, 1, 2] rfl (w_X6_entry_37  _ _ _ _ _ _ hB)
noncomputable def f_X6_entry (κ : gK) (F : Nat) (a0 : Option Nat) (a1 : Int32) (a2 : Int32) (s : gS) : Option (Int32 × gS) := f_X6_entry_0 κ F a0 a1 a2 s
theorem m_X6_entry {E : gE} {F : Nat} (a0 : Option Nat) (a1 : Int32) (a2 : Int32) (s : gS) (r : Int32) (s' : gS) (h : f_X6_entry (gk E) F a0 a1 a2 s = some (r, s')) : gCT E 4 yX6_entry (ws_ yX6_entry cX6_entry 3 (some FieldType.int)) [vR a0, vI a1, vI a2] s (.inl (some (vI r))) s' := by
  refine gCT_of2 (fun h => absurd h (by decide)) (plainFor_of_name (by decide)) (Nat.le_of_ble_eq_true rfl) ?_
  exact gw_sub [0, 1, 2] rfl (w_X6_entry_0 _ _ _ _ h)
def dkwX6_tellRoot_1 : List UInt8 := [182, 0, 46, 62, 28, 4, 160, 0, 13, 29, 156, 0, 9, 17, 252, 24, 167, 0, 4, 29, 172]
abbrev dktX6_tellRoot_1 : List UInt8 := dkwX6_tellRoot_1 ++ []
def dkwX6_tellRoot_0 : List UInt8 := [28, 6, 160, 0, 19, 42, 182, 0, 42, 27, 160, 0, 7, 4, 167, 0, 13, 3, 167, 0, 9, 42, 27, 28]
abbrev dktX6_tellRoot_0 : List UInt8 := dkwX6_tellRoot_0 ++ dktX6_tellRoot_1
theorem dksX6_tellRoot_0 : cX6_tellRoot.data.toList.drop 0 = dktX6_tellRoot_0 := by decide +kernel
theorem dksX6_tellRoot_1 : cX6_tellRoot.data.toList.drop 24 = dktX6_tellRoot_1 := dk_seg dksX6_tellRoot_0 24 rfl rfl
theorem dX6_tellRoot_0 : decode cX6_tellRoot 0 = .ok (.iload_n 2, 1) := dk_28 (dk_at dksX6_tellRoot_0 0 rfl rfl)
theorem dX6_tellRoot_1 : decode cX6_tellRoot 1 = .ok (.iconst 3, 1) := dk_6 (dk_at dksX6_tellRoot_0 1 rfl rfl)
theorem dX6_tellRoot_2 : decode cX6_tellRoot 2 = .ok (.if_icmp .ne 19, 3) := dk_160 0 19 (dk_at dksX6_tellRoot_0 2 rfl rfl)
theorem dX6_tellRoot_5 : decode cX6_tellRoot 5 = .ok (.aload_n 0, 1) := dk_42 (dk_at dksX6_tellRoot_0 5 rfl rfl)
theorem dX6_tellRoot_6 : decode cX6_tellRoot 6 = .ok (.invokevirtual 42, 3) := dk_182 0 42 (dk_at dksX6_tellRoot_0 6 rfl rfl)
theorem dX6_tellRoot_9 : decode cX6_tellRoot 9 = .ok (.iload_n 1, 1) := dk_27 (dk_at dksX6_tellRoot_0 9 rfl rfl)
theorem dX6_tellRoot_10 : decode cX6_tellRoot 10 = .ok (.if_icmp .ne 7, 3) := dk_160 0 7 (dk_at dksX6_tellRoot_0 10 rfl rfl)
theorem dX6_tellRoot_13 : decode cX6_tellRoot 13 = .ok (.iconst 1, 1) := dk_4 (dk_at dksX6_tellRoot_0 13 rfl rfl)
theorem dX6_tellRoot_14 : decode cX6_tellRoot 14 = .ok (.goto 13, 3) := dk_167 0 13 (dk_at dksX6_tellRoot_0 14 rfl rfl)
theorem dX6_tellRoot_17 : decode cX6_tellRoot 17 = .ok (.iconst 0, 1) := dk_3 (dk_at dksX6_tellRoot_0 17 rfl rfl)
theorem dX6_tellRoot_18 : decode cX6_tellRoot 18 = .ok (.goto 9, 3) := dk_167 0 9 (dk_at dksX6_tellRoot_0 18 rfl rfl)
theorem dX6_tellRoot_21 : decode cX6_tellRoot 21 = .ok (.aload_n 0, 1) := dk_42 (dk_at dksX6_tellRoot_0 21 rfl rfl)
theorem dX6_tellRoot_22 : decode cX6_tellRoot 22 = .ok (.iload_n 1, 1) := dk_27 (dk_at dksX6_tellRoot_0 22 rfl rfl)
theorem dX6_tellRoot_23 : decode cX6_tellRoot 23 = .ok (.iload_n 2, 1) := dk_28 (dk_at dksX6_tellRoot_0 23 rfl rfl)
theorem dX6_tellRoot_24 : decode cX6_tellRoot 24 = .ok (.invokevirtual 46, 3) := dk_182 0 46 (dk_at dksX6_tellRoot_1 0 rfl rfl)
theorem dX6_tellRoot_27 : decode cX6_tellRoot 27 = .ok (.istore_n 3, 1) := dk_62 (dk_at dksX6_tellRoot_1 3 rfl rfl)
theorem dX6_tellRoot_28 : decode cX6_tellRoot 28 = .ok (.iload_n 2, 1) := dk_28 (dk_at dksX6_tellRoot_1 4 rfl rfl)
theorem dX6_tellRoot_29 : decode cX6_tellRoot 29 = .ok (.iconst 1, 1) := dk_4 (dk_at dksX6_tellRoot_1 5 rfl rfl)
theorem dX6_tellRoot_30 : decode cX6_tellRoot 30 = .ok (.if_icmp .ne 13, 3) := dk_160 0 13 (dk_at dksX6_tellRoot_1 6 rfl rfl)
theorem dX6_tellRoot_33 : decode cX6_tellRoot 33 = .ok (.iload_n 3, 1) := dk_29 (dk_at dksX6_tellRoot_1 9 rfl rfl)
theorem dX6_tellRoot_34 : decode cX6_tellRoot 34 = .ok (.ifCond .ge 9, 3) := dk_156 0 9 (dk_at dksX6_tellRoot_1 10 rfl rfl)
theorem dX6_tellRoot_37 : decode cX6_tellRoot 37 = .ok (.sipush (-1000), 3) := dk_17 252 24 (dk_at dksX6_tellRoot_1 13 rfl rfl)
theorem dX6_tellRoot_40 : decode cX6_tellRoot 40 = .ok (.goto 4, 3) := dk_167 0 4 (dk_at dksX6_tellRoot_1 16 rfl rfl)
theorem dX6_tellRoot_43 : decode cX6_tellRoot 43 = .ok (.iload_n 3, 1) := dk_29 (dk_at dksX6_tellRoot_1 19 rfl rfl)
theorem dX6_tellRoot_44 : decode cX6_tellRoot 44 = .ok (.ireturn, 1) := dk_172 (dk_at dksX6_tellRoot_1 20 rfl rfl)
/-! PageGardenModel.tellRoot(II)I -/
abbrev M_X6_tellRoot (z0 n0 : Nat) (s' : gS) : gM := (RX6, cX6_tellRoot, 4, (some FieldType.int), "tellRoot", [], 2, z0, n0, s'.2.1, s'.2.2)
abbrev W_X6_tellRoot (E : gE) (z0 n0 : Nat) (r : Int32) (s' : gS) (pc : Nat) (L : List (Nat × gV)) (st : List gV) (s : gS) : Prop := gW E (M_X6_tellRoot z0 n0 s') (gQm E (M_X6_tellRoot z0 n0 s') (.inl (some (vI r))) s') pc L st s
noncomputable def f_X6_tellRoot_44 (κ : gK) (F : Nat)  (t0 : Int32) (s : gS) : Option (Int32 × gS) :=
  some (t0, s)
set_option maxHeartbeats 4000000 in
theorem w_X6_tellRoot_44 {E : gE} {F z0 n0 : Nat} {r : Int32} {s' : gS}   : ∀  (t0 : Int32) (s : gS), f_X6_tellRoot_44 (gk E) F  t0 s = some (r, s') → W_X6_tellRoot E z0 n0 r s' 44 [] [vI t0] s := by
  intro t0 s hB
  unfold f_X6_tellRoot_44 at hB
  obtain ⟨rfl, rfl⟩ := Prod.mk.inj (Option.some.inj hB)
  exact gw_iret rfl rfl rfl dX6_tellRoot_44
noncomputable def f_X6_tellRoot_43 (κ : gK) (F : Nat)  (l3 : Int32) (s : gS) : Option (Int32 × gS) :=
  f_X6_tellRoot_44 κ F  l3 s
set_option maxHeartbeats 4000000 in
theorem w_X6_tellRoot_43 {E : gE} {F z0 n0 : Nat} {r : Int32} {s' : gS}   : ∀ (l3 : Int32)  (s : gS), f_X6_tellRoot_43 (gk E) F  l3 s = some (r, s') → W_X6_tellRoot E z0 n0 r s' 43 [(3, vI l3)] [] s := by
  intro l3 s hB
  unfold f_X6_tellRoot_43 at hB
  refine gw_iload_n 0 rfl dX6_tellRoot_43 ?_
  exact gw_sub [] rfl (w_X6_tellRoot_44  _ _ hB)
noncomputable def f_X6_tellRoot_27 (κ : gK) (F : Nat)  (l2 : Int32) (t0 : Int32) (s : gS) : Option (Int32 × gS) :=
  if l2 = (1 : Int32) then
    if 0 ≤ t0 then
      f_X6_tellRoot_43 κ F  t0 s
    else
      f_X6_tellRoot_44 κ F  (-1000 : Int32) s
  else
    f_X6_tellRoot_43 κ F  t0 s
set_option maxHeartbeats 4000000 in
theorem w_X6_tellRoot_27 {E : gE} {F z0 n0 : Nat} {r : Int32} {s' : gS}   : ∀ (l2 : Int32) (t0 : Int32) (s : gS), f_X6_tellRoot_27 (gk E) F  l2 t0 s = some (r, s') → W_X6_tellRoot E z0 n0 r s' 27 [(2, vI l2)] [vI t0] s := by
  intro l2 t0 s hB
  unfold f_X6_tellRoot_27 at hB
  refine gw_istore_n (L' := [(3, vI t0), (2, vI l2)]) (Nat.le_of_ble_eq_true rfl) rfl dX6_tellRoot_27 ?_
  refine gw_iload_n 1 rfl dX6_tellRoot_28 ?_
  refine gw_iconst (v := (1 : Int32)) (by decide) dX6_tellRoot_29 ?_
  refine gw_icmp_ne (tgt := 43) dX6_tellRoot_30 (by decide) (fun hcnd => ?_) (fun hcnd => ?_)
  · rw [if_neg hcnd] at hB
    exact gw_sub [0] rfl (w_X6_tellRoot_43  _ _ hB)
  · rw [if_pos hcnd] at hB
    refine gw_iload_n 0 rfl dX6_tellRoot_33 ?_
    refine gw_if_ge (tgt := 43) dX6_tellRoot_34 (by decide) (fun hcnd => ?_) (fun hcnd => ?_)
    · rw [if_pos hcnd] at hB
      exact gw_sub [0] rfl (w_X6_tellRoot_43  _ _ hB)
    · rw [if_neg hcnd] at hB
      refine gw_sipush (v := (-1000 : Int32)) (by decide) dX6_tellRoot_37 ?_
      refine gw_goto (tgt := 44) dX6_tellRoot_40 (by decide) ?_
      exact gw_sub [] rfl (w_X6_tellRoot_44  _ _ hB)
noncomputable def f_X6_tellRoot_0 (κ : gK) (F : Nat)  (l0 : Option Nat) (l1 : Int32) (l2 : Int32) (s : gS) : Option (Int32 × gS) :=
  if l2 = (3 : Int32) then
    gB1 (gck s l0 9) fun _ =>
    gB2 (f_X6_current κ F l0  s) fun v5 s4 =>
    if v5 = l1 then
      f_X6_tellRoot_27 κ F  l2 (1 : Int32) s4
    else
      f_X6_tellRoot_27 κ F  l2 (0 : Int32) s4
  else
    gB1 (gck s l0 9) fun _ =>
    gB2 (f_X6_ofRoot κ F l0 l1 l2 s) fun v2 s1 =>
    f_X6_tellRoot_27 κ F  l2 v2 s1
set_option maxHeartbeats 4000000 in
theorem w_X6_tellRoot_0 {E : gE} {F z0 n0 : Nat} {r : Int32} {s' : gS}   : ∀ (l0 : Option Nat) (l1 : Int32) (l2 : Int32)  (s : gS), f_X6_tellRoot_0 (gk E) F  l0 l1 l2 s = some (r, s') → W_X6_tellRoot E z0 n0 r s' 0 [(0, vR l0), (1, vI l1), (2, vI l2)] [] s := by
  intro l0 l1 l2 s hB
  unfold f_X6_tellRoot_0 at hB
  refine gw_iload_n 2 rfl dX6_tellRoot_0 ?_
  refine gw_iconst (v := (3 : Int32)) (by decide) dX6_tellRoot_1 ?_
  refine gw_icmp_ne (tgt := 21) dX6_tellRoot_2 (by decide) (fun hcnd => ?_) (fun hcnd => ?_)
  · rw [if_neg hcnd] at hB
    refine gw_aload_n 0 rfl dX6_tellRoot_21 ?_
    refine gw_iload_n 1 rfl dX6_tellRoot_22 ?_
    refine gw_iload_n 2 rfl dX6_tellRoot_23 ?_
    obtain ⟨u0, hu3, hB⟩ := gB1_some hB
    obtain ⟨v2, s1, hv2, hB⟩ := gB2_some hB
    refine gw_callV (y := yX6_ofRoot) (lw_V q2761 q2763 qs51 q143 q2764) hdV_X6_ofRoot gcl9 hu3 (As := [vI l1, vI l2]) (rest := []) (m_X6_ofRoot _ _ _ _ _ _ hv2) (Nat.le_of_ble_eq_true rfl) (Nat.le_of_ble_eq_true rfl) rfl (Nat.le_of_ble_eq_true rfl) dX6_tellRoot_24 (gCont_i ?_)
    exact gw_sub [2] rfl (w_X6_tellRoot_27  _ _ _ hB)
  · rw [if_pos hcnd] at hB
    refine gw_aload_n 0 rfl dX6_tellRoot_5 ?_
    obtain ⟨u0, hu6, hB⟩ := gB1_some hB
    obtain ⟨v5, s4, hv5, hB⟩ := gB2_some hB
    refine gw_callV (y := yX6_current) (lw_V q2757 q2759 qs50 q143 q2760) hdV_X6_current gcl9 hu6 (As := []) (rest := []) (m_X6_current _ _ _ _ hv5) (Nat.le_of_ble_eq_true rfl) (Nat.le_of_ble_eq_true rfl) rfl (Nat.le_of_ble_eq_true rfl) dX6_tellRoot_6 (gCont_i ?_)
    refine gw_iload_n 1 rfl dX6_tellRoot_9 ?_
    refine gw_icmp_ne (tgt := 17) dX6_tellRoot_10 (by decide) (fun hcnd => ?_) (fun hcnd => ?_)
    · rw [if_neg hcnd] at hB
      refine gw_iconst (v := (0 : Int32)) (by decide) dX6_tellRoot_17 ?_
      refine gw_goto (tgt := 27) dX6_tellRoot_18 (by decide) ?_
      exact gw_sub [2] rfl (w_X6_tellRoot_27  _ _ _ hB)
    · rw [if_pos hcnd] at hB
      refine gw_iconst (v := (1 : Int32)) (by decide) dX6_tellRoot_13 ?_
      refine gw_goto (tgt := 27) dX6_tellRoot_14 (by decide) ?_
      exact gw_sub [2] rfl (w_X6_tellRoot_27  _ _ _ hB)
noncomputable def f_X6_tellRoot (κ : gK) (F : Nat) (a0 : Option Nat) (a1 : Int32) (a2 : Int32) (s : gS) : Option (Int32 × gS) := f_X6_tellRoot_0 κ F a0 a1 a2 s
theorem m_X6_tellRoot {E : gE} {F : Nat} (a0 : Option Nat) (a1 : Int32) (a2 : Int32) (s : gS) (r : Int32) (s' : gS) (h : f_X6_tellRoot (gk E) F a0 a1 a2 s = some (r, s')) : gCT E 2 yX6_tellRoot (ws_ yX6_tellRoot cX6_tellRoot 4 (some FieldType.int)) [vR a0, vI a1, vI a2] s (.inl (some (vI r))) s' := by
  refine gCT_of2 (fun h => absurd h (by decide)) (plainFor_of_name (by decide)) (Nat.le_of_ble_eq_true rfl) ?_
  exact gw_sub [0, 1, 2] rfl (w_X6_tellRoot_0 _ _ _ _ h)
def dkwX6_root_2 : List UInt8 := [172]
abbrev dktX6_root_2 : List UInt8 := dkwX6_root_2 ++ []
def dkwX6_root_1 : List UInt8 := [167, 0, 4, 3, 181, 0, 28, 42, 180, 0, 28, 154, 0, 12, 42, 27, 28, 182, 0, 193, 167, 0, 4, 3]
abbrev dktX6_root_1 : List UInt8 := dkwX6_root_1 ++ dktX6_root_2
def dkwX6_root_0 : List UInt8 := [42, 27, 3, 4, 184, 0, 113, 154, 0, 7, 4, 167, 0, 17, 28, 3, 6, 184, 0, 113, 154, 0, 7, 5]
abbrev dktX6_root_0 : List UInt8 := dkwX6_root_0 ++ dktX6_root_1
theorem dksX6_root_0 : cX6_root.data.toList.drop 0 = dktX6_root_0 := by decide +kernel
theorem dksX6_root_1 : cX6_root.data.toList.drop 24 = dktX6_root_1 := dk_seg dksX6_root_0 24 rfl rfl
theorem dksX6_root_2 : cX6_root.data.toList.drop 48 = dktX6_root_2 := dk_seg dksX6_root_1 24 rfl rfl
theorem dX6_root_0 : decode cX6_root 0 = .ok (.aload_n 0, 1) := dk_42 (dk_at dksX6_root_0 0 rfl rfl)
theorem dX6_root_1 : decode cX6_root 1 = .ok (.iload_n 1, 1) := dk_27 (dk_at dksX6_root_0 1 rfl rfl)
theorem dX6_root_2 : decode cX6_root 2 = .ok (.iconst 0, 1) := dk_3 (dk_at dksX6_root_0 2 rfl rfl)
theorem dX6_root_3 : decode cX6_root 3 = .ok (.iconst 1, 1) := dk_4 (dk_at dksX6_root_0 3 rfl rfl)
theorem dX6_root_4 : decode cX6_root 4 = .ok (.invokestatic 113, 3) := dk_184 0 113 (dk_at dksX6_root_0 4 rfl rfl)
theorem dX6_root_7 : decode cX6_root 7 = .ok (.ifCond .ne 7, 3) := dk_154 0 7 (dk_at dksX6_root_0 7 rfl rfl)
theorem dX6_root_10 : decode cX6_root 10 = .ok (.iconst 1, 1) := dk_4 (dk_at dksX6_root_0 10 rfl rfl)
theorem dX6_root_11 : decode cX6_root 11 = .ok (.goto 17, 3) := dk_167 0 17 (dk_at dksX6_root_0 11 rfl rfl)
theorem dX6_root_14 : decode cX6_root 14 = .ok (.iload_n 2, 1) := dk_28 (dk_at dksX6_root_0 14 rfl rfl)
theorem dX6_root_15 : decode cX6_root 15 = .ok (.iconst 0, 1) := dk_3 (dk_at dksX6_root_0 15 rfl rfl)
theorem dX6_root_16 : decode cX6_root 16 = .ok (.iconst 3, 1) := dk_6 (dk_at dksX6_root_0 16 rfl rfl)
theorem dX6_root_17 : decode cX6_root 17 = .ok (.invokestatic 113, 3) := dk_184 0 113 (dk_at dksX6_root_0 17 rfl rfl)
theorem dX6_root_20 : decode cX6_root 20 = .ok (.ifCond .ne 7, 3) := dk_154 0 7 (dk_at dksX6_root_0 20 rfl rfl)
theorem dX6_root_23 : decode cX6_root 23 = .ok (.iconst 2, 1) := dk_5 (dk_at dksX6_root_0 23 rfl rfl)
theorem dX6_root_24 : decode cX6_root 24 = .ok (.goto 4, 3) := dk_167 0 4 (dk_at dksX6_root_1 0 rfl rfl)
theorem dX6_root_27 : decode cX6_root 27 = .ok (.iconst 0, 1) := dk_3 (dk_at dksX6_root_1 3 rfl rfl)
theorem dX6_root_28 : decode cX6_root 28 = .ok (.putfield 28, 3) := dk_181 0 28 (dk_at dksX6_root_1 4 rfl rfl)
theorem dX6_root_31 : decode cX6_root 31 = .ok (.aload_n 0, 1) := dk_42 (dk_at dksX6_root_1 7 rfl rfl)
theorem dX6_root_32 : decode cX6_root 32 = .ok (.getfield 28, 3) := dk_180 0 28 (dk_at dksX6_root_1 8 rfl rfl)
theorem dX6_root_35 : decode cX6_root 35 = .ok (.ifCond .ne 12, 3) := dk_154 0 12 (dk_at dksX6_root_1 11 rfl rfl)
theorem dX6_root_38 : decode cX6_root 38 = .ok (.aload_n 0, 1) := dk_42 (dk_at dksX6_root_1 14 rfl rfl)
theorem dX6_root_39 : decode cX6_root 39 = .ok (.iload_n 1, 1) := dk_27 (dk_at dksX6_root_1 15 rfl rfl)
theorem dX6_root_40 : decode cX6_root 40 = .ok (.iload_n 2, 1) := dk_28 (dk_at dksX6_root_1 16 rfl rfl)
theorem dX6_root_41 : decode cX6_root 41 = .ok (.invokevirtual 193, 3) := dk_182 0 193 (dk_at dksX6_root_1 17 rfl rfl)
theorem dX6_root_44 : decode cX6_root 44 = .ok (.goto 4, 3) := dk_167 0 4 (dk_at dksX6_root_1 20 rfl rfl)
theorem dX6_root_47 : decode cX6_root 47 = .ok (.iconst 0, 1) := dk_3 (dk_at dksX6_root_1 23 rfl rfl)
theorem dX6_root_48 : decode cX6_root 48 = .ok (.ireturn, 1) := dk_172 (dk_at dksX6_root_2 0 rfl rfl)
/-! PageGardenModel.root(II)I -/
abbrev M_X6_root (z0 n0 : Nat) (s' : gS) : gM := (RX6, cX6_root, 3, (some FieldType.int), "root", [], 3, z0, n0, s'.2.1, s'.2.2)
abbrev W_X6_root (E : gE) (z0 n0 : Nat) (r : Int32) (s' : gS) (pc : Nat) (L : List (Nat × gV)) (st : List gV) (s : gS) : Prop := gW E (M_X6_root z0 n0 s') (gQm E (M_X6_root z0 n0 s') (.inl (some (vI r))) s') pc L st s
noncomputable def f_X6_root_48 (κ : gK) (F : Nat)  (t0 : Int32) (s : gS) : Option (Int32 × gS) :=
  some (t0, s)
set_option maxHeartbeats 4000000 in
theorem w_X6_root_48 {E : gE} {F z0 n0 : Nat} {r : Int32} {s' : gS}   : ∀  (t0 : Int32) (s : gS), f_X6_root_48 (gk E) F  t0 s = some (r, s') → W_X6_root E z0 n0 r s' 48 [] [vI t0] s := by
  intro t0 s hB
  unfold f_X6_root_48 at hB
  obtain ⟨rfl, rfl⟩ := Prod.mk.inj (Option.some.inj hB)
  exact gw_iret rfl rfl rfl dX6_root_48
noncomputable def f_X6_root_28 (κ : gK) (F : Nat)  (l0 : Option Nat) (l1 : Int32) (l2 : Int32) (t0 : Option Nat) (t1 : Int32) (s : gS) : Option (Int32 × gS) :=
  gB1 (gpf κ s t0 9 6 (.int t1)) fun s1 =>
  gB1 (gfI s1 l0 9 6) fun v2 =>
  if v2 = 0 then
    gB1 (gck s1 l0 9) fun _ =>
    gB2 (f_X6_tellRoot κ F l0 l1 l2 s1) fun v4 s3 =>
    f_X6_root_48 κ F  v4 s3
  else
    f_X6_root_48 κ F  (0 : Int32) s1
set_option maxHeartbeats 4000000 in
theorem w_X6_root_28 {E : gE} {F z0 n0 : Nat} {r : Int32} {s' : gS}   : ∀ (l0 : Option Nat) (l1 : Int32) (l2 : Int32) (t0 : Option Nat) (t1 : Int32) (s : gS), f_X6_root_28 (gk E) F  l0 l1 l2 t0 t1 s = some (r, s') → W_X6_root E z0 n0 r s' 28 [(0, vR l0), (1, vI l1), (2, vI l2)] [vI t1, vR t0] s := by
  intro l0 l1 l2 t0 t1 s hB
  unfold f_X6_root_28 at hB
  obtain ⟨s1, hs1, hB⟩ := gB1_some hB
  refine gw_putf (C := RX6) (T := TX6) (N := 13) (k := 6) tyX6 tyX6_ok nmX6 gcl9 (by decide) in_X6 q2700 rfl (tyX6_ok 6 (by decide)) (gNF_i _) hs1 dX6_root_28 ?_
  refine gw_aload_n 0 rfl dX6_root_31 ?_
  obtain ⟨v2, hv2, hB⟩ := gB1_some hB
  refine gw_getf (C := RX6) (T := TX6) (N := 13) (k := 6) gcl9 (by decide) in_X6 q2700 (gfI_spec hv2) dX6_root_32 ?_
  refine gw_if_ne (tgt := 47) dX6_root_35 (by decide) (fun hcnd => ?_) (fun hcnd => ?_)
  · rw [if_neg hcnd] at hB
    refine gw_iconst (v := (0 : Int32)) (by decide) dX6_root_47 ?_
    exact gw_sub [] rfl (w_X6_root_48  _ _ hB)
  · rw [if_pos hcnd] at hB
    refine gw_aload_n 0 rfl dX6_root_38 ?_
    refine gw_iload_n 1 rfl dX6_root_39 ?_
    refine gw_iload_n 2 rfl dX6_root_40 ?_
    obtain ⟨u0, hu5, hB⟩ := gB1_some hB
    obtain ⟨v4, s3, hv4, hB⟩ := gB2_some hB
    refine gw_callV (y := yX6_tellRoot) (lw_V q2974 q2976 qs91 q143 q2977) hdV_X6_tellRoot gcl9 hu5 (As := [vI l1, vI l2]) (rest := []) (m_X6_tellRoot _ _ _ _ _ _ hv4) (Nat.le_of_ble_eq_true rfl) (Nat.le_of_ble_eq_true rfl) rfl (Nat.le_of_ble_eq_true rfl) dX6_root_41 (gCont_i ?_)
    refine gw_goto (tgt := 48) dX6_root_44 (by decide) ?_
    exact gw_sub [] rfl (w_X6_root_48  _ _ hB)
noncomputable def f_X6_root_0 (κ : gK) (F : Nat)  (l0 : Option Nat) (l1 : Int32) (l2 : Int32) (s : gS) : Option (Int32 × gS) :=
  gB2 (f_X6_in κ F l1 (0 : Int32) (1 : Int32) s) fun v2 s1 =>
  if v2 = 0 then
    f_X6_root_28 κ F  l0 l1 l2 l0 (1 : Int32) s1
  else
    gB2 (f_X6_in κ F l2 (0 : Int32) (3 : Int32) s1) fun v4 s3 =>
    if v4 = 0 then
      f_X6_root_28 κ F  l0 l1 l2 l0 (2 : Int32) s3
    else
      f_X6_root_28 κ F  l0 l1 l2 l0 (0 : Int32) s3
set_option maxHeartbeats 4000000 in
theorem w_X6_root_0 {E : gE} {F z0 n0 : Nat} {r : Int32} {s' : gS}   : ∀ (l0 : Option Nat) (l1 : Int32) (l2 : Int32)  (s : gS), f_X6_root_0 (gk E) F  l0 l1 l2 s = some (r, s') → W_X6_root E z0 n0 r s' 0 [(0, vR l0), (1, vI l1), (2, vI l2)] [] s := by
  intro l0 l1 l2 s hB
  unfold f_X6_root_0 at hB
  refine gw_aload_n 0 rfl dX6_root_0 ?_
  refine gw_iload_n 1 rfl dX6_root_1 ?_
  refine gw_iconst (v := (0 : Int32)) (by decide) dX6_root_2 ?_
  refine gw_iconst (v := (1 : Int32)) (by decide) dX6_root_3 ?_
  obtain ⟨v2, s1, hv2, hB⟩ := gB2_some hB
  refine gw_callS (y := yX6_in) (lw_S q2777 q2778 q143 q2779) hdS_X6_in (As := [vI l1, vI (0 : Int32), vI (1 : Int32)]) (rest := [vR l0]) (m_X6_in _ _ _ _ _ _ hv2) (Nat.le_of_ble_eq_true rfl) (Nat.le_of_ble_eq_true rfl) rfl (Nat.le_of_ble_eq_true rfl) dX6_root_4 (gCont_i ?_)
  refine gw_if_ne (tgt := 14) dX6_root_7 (by decide) (fun hcnd => ?_) (fun hcnd => ?_)
  · rw [if_neg hcnd] at hB
    refine gw_iload_n 2 rfl dX6_root_14 ?_
    refine gw_iconst (v := (0 : Int32)) (by decide) dX6_root_15 ?_
    refine gw_iconst (v := (3 : Int32)) (by decide) dX6_root_16 ?_
    obtain ⟨v4, s3, hv4, hB⟩ := gB2_some hB
    refine gw_callS (y := yX6_in) (lw_S q2777 q2778 q143 q2779) hdS_X6_in (As := [vI l2, vI (0 : Int32), vI (3 : Int32)]) (rest := [vR l0]) (m_X6_in _ _ _ _ _ _ hv4) (Nat.le_of_ble_eq_true rfl) (Nat.le_of_ble_eq_true rfl) rfl (Nat.le_of_ble_eq_true rfl) dX6_root_17 (gCont_i ?_)
    refine gw_if_ne (tgt := 27) dX6_root_20 (by decide) (fun hcnd => ?_) (fun hcnd => ?_)
    · rw [if_neg hcnd] at hB
      refine gw_iconst (v := (0 : Int32)) (by decide) dX6_root_27 ?_
      exact gw_sub [0, 1, 2] rfl (w_X6_root_28  _ _ _ _ _ _ hB)
    · rw [if_pos hcnd] at hB
      refine gw_iconst (v := (2 : Int32)) (by decide) dX6_root_23 ?_
      refine gw_goto (tgt := 28) dX6_root_24 (by decide) ?_
      exact gw_sub [0, 1, 2] rfl (w_X6_root_28  _ _ _ _ _ _ hB)
  · rw [if_pos hcnd] at hB
    refine gw_iconst (v := (1 : Int32)) (by decide) dX6_root_10 ?_
    refine gw_goto (tgt := 28) dX6_root_11 (by decide) ?_
    exact gw_sub [0, 1, 2] rfl (w_X6_root_28  _ _ _ _ _ _ hB)
noncomputable def f_X6_root (κ : gK) (F : Nat) (a0 : Option Nat) (a1 : Int32) (a2 : Int32) (s : gS) : Option (Int32 × gS) := f_X6_root_0 κ F a0 a1 a2 s
theorem m_X6_root {E : gE} {F : Nat} (a0 : Option Nat) (a1 : Int32) (a2 : Int32) (s : gS) (r : Int32) (s' : gS) (h : f_X6_root (gk E) F a0 a1 a2 s = some (r, s')) : gCT E 3 yX6_root (ws_ yX6_root cX6_root 3 (some FieldType.int)) [vR a0, vI a1, vI a2] s (.inl (some (vI r))) s' := by
  refine gCT_of2 (fun h => absurd h (by decide)) (plainFor_of_name (by decide)) (Nat.le_of_ble_eq_true rfl) ?_
  exact gw_sub [0, 1, 2] rfl (w_X6_root_0 _ _ _ _ h)
def dkwX6_tellReader_1 : List UInt8 := [182, 0, 50, 182, 0, 187, 167, 0, 11, 42, 27, 28, 4, 96, 182, 0, 50, 172]
abbrev dktX6_tellReader_1 : List UInt8 := dkwX6_tellReader_1 ++ []
def dkwX6_tellReader_0 : List UInt8 := [42, 27, 3, 182, 0, 50, 154, 0, 7, 17, 252, 24, 172, 28, 5, 160, 0, 16, 42, 42, 27, 5]
abbrev dktX6_tellReader_0 : List UInt8 := dkwX6_tellReader_0 ++ dktX6_tellReader_1
theorem dksX6_tellReader_0 : cX6_tellReader.data.toList.drop 0 = dktX6_tellReader_0 := by decide +kernel
theorem dksX6_tellReader_1 : cX6_tellReader.data.toList.drop 22 = dktX6_tellReader_1 := dk_seg dksX6_tellReader_0 22 rfl rfl
theorem dX6_tellReader_0 : decode cX6_tellReader 0 = .ok (.aload_n 0, 1) := dk_42 (dk_at dksX6_tellReader_0 0 rfl rfl)
theorem dX6_tellReader_1 : decode cX6_tellReader 1 = .ok (.iload_n 1, 1) := dk_27 (dk_at dksX6_tellReader_0 1 rfl rfl)
theorem dX6_tellReader_2 : decode cX6_tellReader 2 = .ok (.iconst 0, 1) := dk_3 (dk_at dksX6_tellReader_0 2 rfl rfl)
theorem dX6_tellReader_3 : decode cX6_tellReader 3 = .ok (.invokevirtual 50, 3) := dk_182 0 50 (dk_at dksX6_tellReader_0 3 rfl rfl)
theorem dX6_tellReader_6 : decode cX6_tellReader 6 = .ok (.ifCond .ne 7, 3) := dk_154 0 7 (dk_at dksX6_tellReader_0 6 rfl rfl)
theorem dX6_tellReader_9 : decode cX6_tellReader 9 = .ok (.sipush (-1000), 3) := dk_17 252 24 (dk_at dksX6_tellReader_0 9 rfl rfl)
theorem dX6_tellReader_12 : decode cX6_tellReader 12 = .ok (.ireturn, 1) := dk_172 (dk_at dksX6_tellReader_0 12 rfl rfl)
theorem dX6_tellReader_13 : decode cX6_tellReader 13 = .ok (.iload_n 2, 1) := dk_28 (dk_at dksX6_tellReader_0 13 rfl rfl)
theorem dX6_tellReader_14 : decode cX6_tellReader 14 = .ok (.iconst 2, 1) := dk_5 (dk_at dksX6_tellReader_0 14 rfl rfl)
theorem dX6_tellReader_15 : decode cX6_tellReader 15 = .ok (.if_icmp .ne 16, 3) := dk_160 0 16 (dk_at dksX6_tellReader_0 15 rfl rfl)
theorem dX6_tellReader_18 : decode cX6_tellReader 18 = .ok (.aload_n 0, 1) := dk_42 (dk_at dksX6_tellReader_0 18 rfl rfl)
theorem dX6_tellReader_19 : decode cX6_tellReader 19 = .ok (.aload_n 0, 1) := dk_42 (dk_at dksX6_tellReader_0 19 rfl rfl)
theorem dX6_tellReader_20 : decode cX6_tellReader 20 = .ok (.iload_n 1, 1) := dk_27 (dk_at dksX6_tellReader_0 20 rfl rfl)
theorem dX6_tellReader_21 : decode cX6_tellReader 21 = .ok (.iconst 2, 1) := dk_5 (dk_at dksX6_tellReader_0 21 rfl rfl)
theorem dX6_tellReader_22 : decode cX6_tellReader 22 = .ok (.invokevirtual 50, 3) := dk_182 0 50 (dk_at dksX6_tellReader_1 0 rfl rfl)
theorem dX6_tellReader_25 : decode cX6_tellReader 25 = .ok (.invokevirtual 187, 3) := dk_182 0 187 (dk_at dksX6_tellReader_1 3 rfl rfl)
theorem dX6_tellReader_28 : decode cX6_tellReader 28 = .ok (.goto 11, 3) := dk_167 0 11 (dk_at dksX6_tellReader_1 6 rfl rfl)
theorem dX6_tellReader_31 : decode cX6_tellReader 31 = .ok (.aload_n 0, 1) := dk_42 (dk_at dksX6_tellReader_1 9 rfl rfl)
theorem dX6_tellReader_32 : decode cX6_tellReader 32 = .ok (.iload_n 1, 1) := dk_27 (dk_at dksX6_tellReader_1 10 rfl rfl)
theorem dX6_tellReader_33 : decode cX6_tellReader 33 = .ok (.iload_n 2, 1) := dk_28 (dk_at dksX6_tellReader_1 11 rfl rfl)
theorem dX6_tellReader_34 : decode cX6_tellReader 34 = .ok (.iconst 1, 1) := dk_4 (dk_at dksX6_tellReader_1 12 rfl rfl)
theorem dX6_tellReader_35 : decode cX6_tellReader 35 = .ok (.iadd, 1) := dk_96 (dk_at dksX6_tellReader_1 13 rfl rfl)
theorem dX6_tellReader_36 : decode cX6_tellReader 36 = .ok (.invokevirtual 50, 3) := dk_182 0 50 (dk_at dksX6_tellReader_1 14 rfl rfl)
theorem dX6_tellReader_39 : decode cX6_tellReader 39 = .ok (.ireturn, 1) := dk_172 (dk_at dksX6_tellReader_1 17 rfl rfl)
/-! PageGardenModel.tellReader(II)I -/
abbrev M_X6_tellReader (z0 n0 : Nat) (s' : gS) : gM := (RX6, cX6_tellReader, 3, (some FieldType.int), "tellReader", [], 4, z0, n0, s'.2.1, s'.2.2)
abbrev W_X6_tellReader (E : gE) (z0 n0 : Nat) (r : Int32) (s' : gS) (pc : Nat) (L : List (Nat × gV)) (st : List gV) (s : gS) : Prop := gW E (M_X6_tellReader z0 n0 s') (gQm E (M_X6_tellReader z0 n0 s') (.inl (some (vI r))) s') pc L st s
noncomputable def f_X6_tellReader_39 (κ : gK) (F : Nat)  (t0 : Int32) (s : gS) : Option (Int32 × gS) :=
  some (t0, s)
set_option maxHeartbeats 4000000 in
theorem w_X6_tellReader_39 {E : gE} {F z0 n0 : Nat} {r : Int32} {s' : gS}   : ∀  (t0 : Int32) (s : gS), f_X6_tellReader_39 (gk E) F  t0 s = some (r, s') → W_X6_tellReader E z0 n0 r s' 39 [] [vI t0] s := by
  intro t0 s hB
  unfold f_X6_tellReader_39 at hB
  obtain ⟨rfl, rfl⟩ := Prod.mk.inj (Option.some.inj hB)
  exact gw_iret rfl rfl rfl dX6_tellReader_39
noncomputable def f_X6_tellReader_0 (κ : gK) (F : Nat)  (l0 : Option Nat) (l1 : Int32) (l2 : Int32) (s : gS) : Option (Int32 × gS) :=
  gB1 (gck s l0 9) fun _ =>
  gB2 (f_X6_ofReader κ F l0 l1 (0 : Int32) s) fun v2 s1 =>
  if v2 = 0 then
    some ((-1000 : Int32), s1)
  else
    if l2 = (2 : Int32) then
      gB1 (gck s1 l0 9) fun _ =>
      gB2 (f_X6_ofReader κ F l0 l1 (2 : Int32) s1) fun v8 s7 =>
      gB1 (gck s7 l0 9) fun _ =>
      gB2 (f_X6_entriesBy κ F l0 v8 s7) fun v11 s10 =>
      f_X6_tellReader_39 κ F  v11 s10
    else
      gB1 (gck s1 l0 9) fun _ =>
      gB2 (f_X6_ofReader κ F l0 l1 (l2 + (1 : Int32)) s1) fun v5 s4 =>
      f_X6_tellReader_39 κ F  v5 s4
set_option maxHeartbeats 4000000 in
theorem w_X6_tellReader_0 {E : gE} {F z0 n0 : Nat} {r : Int32} {s' : gS}   : ∀ (l0 : Option Nat) (l1 : Int32) (l2 : Int32)  (s : gS), f_X6_tellReader_0 (gk E) F  l0 l1 l2 s = some (r, s') → W_X6_tellReader E z0 n0 r s' 0 [(0, vR l0), (1, vI l1), (2, vI l2)] [] s := by
  intro l0 l1 l2 s hB
  unfold f_X6_tellReader_0 at hB
  refine gw_aload_n 0 rfl dX6_tellReader_0 ?_
  refine gw_iload_n 1 rfl dX6_tellReader_1 ?_
  refine gw_iconst (v := (0 : Int32)) (by decide) dX6_tellReader_2 ?_
  obtain ⟨u0, hu3, hB⟩ := gB1_some hB
  obtain ⟨v2, s1, hv2, hB⟩ := gB2_some hB
  refine gw_callV (y := yX6_ofReader) (lw_V q2824 q2826 qs65 q143 q2827) hdV_X6_ofReader gcl9 hu3 (As := [vI l1, vI (0 : Int32)]) (rest := []) (m_X6_ofReader _ _ _ _ _ _ hv2) (Nat.le_of_ble_eq_true rfl) (Nat.le_of_ble_eq_true rfl) rfl (Nat.le_of_ble_eq_true rfl) dX6_tellReader_3 (gCont_i ?_)
  refine gw_if_ne (tgt := 13) dX6_tellReader_6 (by decide) (fun hcnd => ?_) (fun hcnd => ?_)
  · rw [if_neg hcnd] at hB
    refine gw_iload_n 2 rfl dX6_tellReader_13 ?_
    refine gw_iconst (v := (2 : Int32)) (by decide) dX6_tellReader_14 ?_
    refine gw_icmp_ne (tgt := 31) dX6_tellReader_15 (by decide) (fun hcnd => ?_) (fun hcnd => ?_)
    · rw [if_neg hcnd] at hB
      refine gw_aload_n 0 rfl dX6_tellReader_31 ?_
      refine gw_iload_n 1 rfl dX6_tellReader_32 ?_
      refine gw_iload_n 2 rfl dX6_tellReader_33 ?_
      refine gw_iconst (v := (1 : Int32)) (by decide) dX6_tellReader_34 ?_
      refine gw_iadd dX6_tellReader_35 ?_
      obtain ⟨u0, hu6, hB⟩ := gB1_some hB
      obtain ⟨v5, s4, hv5, hB⟩ := gB2_some hB
      refine gw_callV (y := yX6_ofReader) (lw_V q2824 q2826 qs65 q143 q2827) hdV_X6_ofReader gcl9 hu6 (As := [vI l1, vI (l2 + (1 : Int32))]) (rest := []) (m_X6_ofReader _ _ _ _ _ _ hv5) (Nat.le_of_ble_eq_true rfl) (Nat.le_of_ble_eq_true rfl) rfl (Nat.le_of_ble_eq_true rfl) dX6_tellReader_36 (gCont_i ?_)
      exact gw_sub [] rfl (w_X6_tellReader_39  _ _ hB)
    · rw [if_pos hcnd] at hB
      refine gw_aload_n 0 rfl dX6_tellReader_18 ?_
      refine gw_aload_n 0 rfl dX6_tellReader_19 ?_
      refine gw_iload_n 1 rfl dX6_tellReader_20 ?_
      refine gw_iconst (v := (2 : Int32)) (by decide) dX6_tellReader_21 ?_
      obtain ⟨u0, hu9, hB⟩ := gB1_some hB
      obtain ⟨v8, s7, hv8, hB⟩ := gB2_some hB
      refine gw_callV (y := yX6_ofReader) (lw_V q2824 q2826 qs65 q143 q2827) hdV_X6_ofReader gcl9 hu9 (As := [vI l1, vI (2 : Int32)]) (rest := [vR l0]) (m_X6_ofReader _ _ _ _ _ _ hv8) (Nat.le_of_ble_eq_true rfl) (Nat.le_of_ble_eq_true rfl) rfl (Nat.le_of_ble_eq_true rfl) dX6_tellReader_22 (gCont_i ?_)
      obtain ⟨u0, hu12, hB⟩ := gB1_some hB
      obtain ⟨v11, s10, hv11, hB⟩ := gB2_some hB
      refine gw_callV (y := yX6_entriesBy) (lw_V q2962 q2964 qs89 q143 q2965) hdV_X6_entriesBy gcl9 hu12 (As := [vI v8]) (rest := []) (m_X6_entriesBy _ _ _ _ _ hv11) (Nat.le_of_ble_eq_true rfl) (Nat.le_of_ble_eq_true rfl) rfl (Nat.le_of_ble_eq_true rfl) dX6_tellReader_25 (gCont_i ?_)
      refine gw_goto (tgt := 39) dX6_tellReader_28 (by decide) ?_
      exact gw_sub [] rfl (w_X6_tellReader_39  _ _ hB)
  · rw [if_pos hcnd] at hB
    refine gw_sipush (v := (-1000 : Int32)) (by decide) dX6_tellReader_9 ?_
    obtain ⟨rfl, rfl⟩ := Prod.mk.inj (Option.some.inj hB)
    exact gw_iret rfl rfl rfl dX6_tellReader_12
noncomputable def f_X6_tellReader (κ : gK) (F : Nat) (a0 : Option Nat) (a1 : Int32) (a2 : Int32) (s : gS) : Option (Int32 × gS) := f_X6_tellReader_0 κ F a0 a1 a2 s
theorem m_X6_tellReader {E : gE} {F : Nat} (a0 : Option Nat) (a1 : Int32) (a2 : Int32) (s : gS) (r : Int32) (s' : gS) (h : f_X6_tellReader (gk E) F a0 a1 a2 s = some (r, s')) : gCT E 4 yX6_tellReader (ws_ yX6_tellReader cX6_tellReader 3 (some FieldType.int)) [vR a0, vI a1, vI a2] s (.inl (some (vI r))) s' := by
  refine gCT_of2 (fun h => absurd h (by decide)) (plainFor_of_name (by decide)) (Nat.le_of_ble_eq_true rfl) ?_
  exact gw_sub [0, 1, 2] rfl (w_X6_tellReader_0 _ _ _ _ h)
def dkwX6_reader_2 : List UInt8 := [172]
abbrev dktX6_reader_2 : List UInt8 := dkwX6_reader_2 ++ []
def dkwX6_reader_1 : List UInt8 := [167, 0, 4, 3, 181, 0, 28, 42, 180, 0, 28, 154, 0, 12, 42, 27, 28, 182, 0, 196, 167, 0, 4, 3]
abbrev dktX6_reader_1 : List UInt8 := dkwX6_reader_1 ++ dktX6_reader_2
def dkwX6_reader_0 : List UInt8 := [42, 27, 184, 0, 184, 154, 0, 7, 4, 167, 0, 17, 28, 3, 5, 184, 0, 113, 154, 0, 7, 5]
abbrev dktX6_reader_0 : List UInt8 := dkwX6_reader_0 ++ dktX6_reader_1
theorem dksX6_reader_0 : cX6_reader.data.toList.drop 0 = dktX6_reader_0 := by decide +kernel
theorem dksX6_reader_1 : cX6_reader.data.toList.drop 22 = dktX6_reader_1 := dk_seg dksX6_reader_0 22 rfl rfl
theorem dksX6_reader_2 : cX6_reader.data.toList.drop 46 = dktX6_reader_2 := dk_seg dksX6_reader_1 24 rfl rfl
theorem dX6_reader_0 : decode cX6_reader 0 = .ok (.aload_n 0, 1) := dk_42 (dk_at dksX6_reader_0 0 rfl rfl)
theorem dX6_reader_1 : decode cX6_reader 1 = .ok (.iload_n 1, 1) := dk_27 (dk_at dksX6_reader_0 1 rfl rfl)
theorem dX6_reader_2 : decode cX6_reader 2 = .ok (.invokestatic 184, 3) := dk_184 0 184 (dk_at dksX6_reader_0 2 rfl rfl)
theorem dX6_reader_5 : decode cX6_reader 5 = .ok (.ifCond .ne 7, 3) := dk_154 0 7 (dk_at dksX6_reader_0 5 rfl rfl)
theorem dX6_reader_8 : decode cX6_reader 8 = .ok (.iconst 1, 1) := dk_4 (dk_at dksX6_reader_0 8 rfl rfl)
theorem dX6_reader_9 : decode cX6_reader 9 = .ok (.goto 17, 3) := dk_167 0 17 (dk_at dksX6_reader_0 9 rfl rfl)
theorem dX6_reader_12 : decode cX6_reader 12 = .ok (.iload_n 2, 1) := dk_28 (dk_at dksX6_reader_0 12 rfl rfl)
theorem dX6_reader_13 : decode cX6_reader 13 = .ok (.iconst 0, 1) := dk_3 (dk_at dksX6_reader_0 13 rfl rfl)
theorem dX6_reader_14 : decode cX6_reader 14 = .ok (.iconst 2, 1) := dk_5 (dk_at dksX6_reader_0 14 rfl rfl)
theorem dX6_reader_15 : decode cX6_reader 15 = .ok (.invokestatic 113, 3) := dk_184 0 113 (dk_at dksX6_reader_0 15 rfl rfl)
theorem dX6_reader_18 : decode cX6_reader 18 = .ok (.ifCond .ne 7, 3) := dk_154 0 7 (dk_at dksX6_reader_0 18 rfl rfl)
theorem dX6_reader_21 : decode cX6_reader 21 = .ok (.iconst 2, 1) := dk_5 (dk_at dksX6_reader_0 21 rfl rfl)
theorem dX6_reader_22 : decode cX6_reader 22 = .ok (.goto 4, 3) := dk_167 0 4 (dk_at dksX6_reader_1 0 rfl rfl)
theorem dX6_reader_25 : decode cX6_reader 25 = .ok (.iconst 0, 1) := dk_3 (dk_at dksX6_reader_1 3 rfl rfl)
theorem dX6_reader_26 : decode cX6_reader 26 = .ok (.putfield 28, 3) := dk_181 0 28 (dk_at dksX6_reader_1 4 rfl rfl)
theorem dX6_reader_29 : decode cX6_reader 29 = .ok (.aload_n 0, 1) := dk_42 (dk_at dksX6_reader_1 7 rfl rfl)
theorem dX6_reader_30 : decode cX6_reader 30 = .ok (.getfield 28, 3) := dk_180 0 28 (dk_at dksX6_reader_1 8 rfl rfl)
theorem dX6_reader_33 : decode cX6_reader 33 = .ok (.ifCond .ne 12, 3) := dk_154 0 12 (dk_at dksX6_reader_1 11 rfl rfl)
theorem dX6_reader_36 : decode cX6_reader 36 = .ok (.aload_n 0, 1) := dk_42 (dk_at dksX6_reader_1 14 rfl rfl)
theorem dX6_reader_37 : decode cX6_reader 37 = .ok (.iload_n 1, 1) := dk_27 (dk_at dksX6_reader_1 15 rfl rfl)
theorem dX6_reader_38 : decode cX6_reader 38 = .ok (.iload_n 2, 1) := dk_28 (dk_at dksX6_reader_1 16 rfl rfl)
theorem dX6_reader_39 : decode cX6_reader 39 = .ok (.invokevirtual 196, 3) := dk_182 0 196 (dk_at dksX6_reader_1 17 rfl rfl)
theorem dX6_reader_42 : decode cX6_reader 42 = .ok (.goto 4, 3) := dk_167 0 4 (dk_at dksX6_reader_1 20 rfl rfl)
theorem dX6_reader_45 : decode cX6_reader 45 = .ok (.iconst 0, 1) := dk_3 (dk_at dksX6_reader_1 23 rfl rfl)
theorem dX6_reader_46 : decode cX6_reader 46 = .ok (.ireturn, 1) := dk_172 (dk_at dksX6_reader_2 0 rfl rfl)
/-! PageGardenModel.reader(II)I -/
abbrev M_X6_reader (z0 n0 : Nat) (s' : gS) : gM := (RX6, cX6_reader, 3, (some FieldType.int), "reader", [], 5, z0, n0, s'.2.1, s'.2.2)
abbrev W_X6_reader (E : gE) (z0 n0 : Nat) (r : Int32) (s' : gS) (pc : Nat) (L : List (Nat × gV)) (st : List gV) (s : gS) : Prop := gW E (M_X6_reader z0 n0 s') (gQm E (M_X6_reader z0 n0 s') (.inl (some (vI r))) s') pc L st s
noncomputable def f_X6_reader_46 (κ : gK) (F : Nat)  (t0 : Int32) (s : gS) : Option (Int32 × gS) :=
  some (t0, s)
set_option maxHeartbeats 4000000 in
theorem w_X6_reader_46 {E : gE} {F z0 n0 : Nat} {r : Int32} {s' : gS}   : ∀  (t0 : Int32) (s : gS), f_X6_reader_46 (gk E) F  t0 s = some (r, s') → W_X6_reader E z0 n0 r s' 46 [] [vI t0] s := by
  intro t0 s hB
  unfold f_X6_reader_46 at hB
  obtain ⟨rfl, rfl⟩ := Prod.mk.inj (Option.some.inj hB)
  exact gw_iret rfl rfl rfl dX6_reader_46
noncomputable def f_X6_reader_26 (κ : gK) (F : Nat)  (l0 : Option Nat) (l1 : Int32) (l2 : Int32) (t0 : Option Nat) (t1 : Int32) (s : gS) : Option (Int32 × gS) :=
  gB1 (gpf κ s t0 9 6 (.int t1)) fun s1 =>
  gB1 (gfI s1 l0 9 6) fun v2 =>
  if v2 = 0 then
    gB1 (gck s1 l0 9) fun _ =>
    gB2 (f_X6_tellReader κ F l0 l1 l2 s1) fun v4 s3 =>
    f_X6_reader_46 κ F  v4 s3
  else
    f_X6_reader_46 κ F  (0 : Int32) s1
set_option maxHeartbeats 4000000 in
theorem w_X6_reader_26 {E : gE} {F z0 n0 : Nat} {r : Int32} {s' : gS}   : ∀ (l0 : Option Nat) (l1 : Int32) (l2 : Int32) (t0 : Option Nat) (t1 : Int32) (s : gS), f_X6_reader_26 (gk E) F  l0 l1 l2 t0 t1 s = some (r, s') → W_X6_reader E z0 n0 r s' 26 [(0, vR l0), (1, vI l1), (2, vI l2)] [vI t1, vR t0] s := by
  intro l0 l1 l2 t0 t1 s hB
  unfold f_X6_reader_26 at hB
  obtain ⟨s1, hs1, hB⟩ := gB1_some hB
  refine gw_putf (C := RX6) (T := TX6) (N := 13) (k := 6) tyX6 tyX6_ok nmX6 gcl9 (by decide) in_X6 q2700 rfl (tyX6_ok 6 (by decide)) (gNF_i _) hs1 dX6_reader_26 ?_
  refine gw_aload_n 0 rfl dX6_reader_29 ?_
  obtain ⟨v2, hv2, hB⟩ := gB1_some hB
  refine gw_getf (C := RX6) (T := TX6) (N := 13) (k := 6) gcl9 (by decide) in_X6 q2700 (gfI_spec hv2) dX6_reader_30 ?_
  refine gw_if_ne (tgt := 45) dX6_reader_33 (by decide) (fun hcnd => ?_) (fun hcnd => ?_)
  · rw [if_neg hcnd] at hB
    refine gw_iconst (v := (0 : Int32)) (by decide) dX6_reader_45 ?_
    exact gw_sub [] rfl (w_X6_reader_46  _ _ hB)
  · rw [if_pos hcnd] at hB
    refine gw_aload_n 0 rfl dX6_reader_36 ?_
    refine gw_iload_n 1 rfl dX6_reader_37 ?_
    refine gw_iload_n 2 rfl dX6_reader_38 ?_
    obtain ⟨u0, hu5, hB⟩ := gB1_some hB
    obtain ⟨v4, s3, hv4, hB⟩ := gB2_some hB
    refine gw_callV (y := yX6_tellReader) (lw_V q2982 q2984 qs92 q143 q2985) hdV_X6_tellReader gcl9 hu5 (As := [vI l1, vI l2]) (rest := []) (m_X6_tellReader _ _ _ _ _ _ hv4) (Nat.le_of_ble_eq_true rfl) (Nat.le_of_ble_eq_true rfl) rfl (Nat.le_of_ble_eq_true rfl) dX6_reader_39 (gCont_i ?_)
    refine gw_goto (tgt := 46) dX6_reader_42 (by decide) ?_
    exact gw_sub [] rfl (w_X6_reader_46  _ _ hB)
noncomputable def f_X6_reader_0 (κ : gK) (F : Nat)  (l0 : Option Nat) (l1 : Int32) (l2 : Int32) (s : gS) : Option (Int32 × gS) :=
  gB2 (f_X6_isReader κ F l1 s) fun v2 s1 =>
  if v2 = 0 then
    f_X6_reader_26 κ F  l0 l1 l2 l0 (1 : Int32) s1
  else
    gB2 (f_X6_in κ F l2 (0 : Int32) (2 : Int32) s1) fun v4 s3 =>
    if v4 = 0 then
      f_X6_reader_26 κ F  l0 l1 l2 l0 (2 : Int32) s3
    else
      f_X6_reader_26 κ F  l0 l1 l2 l0 (0 : Int32) s3
set_option maxHeartbeats 4000000 in
theorem w_X6_reader_0 {E : gE} {F z0 n0 : Nat} {r : Int32} {s' : gS}   : ∀ (l0 : Option Nat) (l1 : Int32) (l2 : Int32)  (s : gS), f_X6_reader_0 (gk E) F  l0 l1 l2 s = some (r, s') → W_X6_reader E z0 n0 r s' 0 [(0, vR l0), (1, vI l1), (2, vI l2)] [] s := by
  intro l0 l1 l2 s hB
  unfold f_X6_reader_0 at hB
  refine gw_aload_n 0 rfl dX6_reader_0 ?_
  refine gw_iload_n 1 rfl dX6_reader_1 ?_
  obtain ⟨v2, s1, hv2, hB⟩ := gB2_some hB
  refine gw_callS (y := yX6_isReader) (lw_S q2955 q2956 q143 q2957) hdS_X6_isReader (As := [vI l1]) (rest := [vR l0]) (m_X6_isReader _ _ _ _ hv2) (Nat.le_of_ble_eq_true rfl) (Nat.le_of_ble_eq_true rfl) rfl (Nat.le_of_ble_eq_true rfl) dX6_reader_2 (gCont_i ?_)
  refine gw_if_ne (tgt := 12) dX6_reader_5 (by decide) (fun hcnd => ?_) (fun hcnd => ?_)
  · rw [if_neg hcnd] at hB
    refine gw_iload_n 2 rfl dX6_reader_12 ?_
    refine gw_iconst (v := (0 : Int32)) (by decide) dX6_reader_13 ?_
    refine gw_iconst (v := (2 : Int32)) (by decide) dX6_reader_14 ?_
    obtain ⟨v4, s3, hv4, hB⟩ := gB2_some hB
    refine gw_callS (y := yX6_in) (lw_S q2777 q2778 q143 q2779) hdS_X6_in (As := [vI l2, vI (0 : Int32), vI (2 : Int32)]) (rest := [vR l0]) (m_X6_in _ _ _ _ _ _ hv4) (Nat.le_of_ble_eq_true rfl) (Nat.le_of_ble_eq_true rfl) rfl (Nat.le_of_ble_eq_true rfl) dX6_reader_15 (gCont_i ?_)
    refine gw_if_ne (tgt := 25) dX6_reader_18 (by decide) (fun hcnd => ?_) (fun hcnd => ?_)
    · rw [if_neg hcnd] at hB
      refine gw_iconst (v := (0 : Int32)) (by decide) dX6_reader_25 ?_
      exact gw_sub [0, 1, 2] rfl (w_X6_reader_26  _ _ _ _ _ _ hB)
    · rw [if_pos hcnd] at hB
      refine gw_iconst (v := (2 : Int32)) (by decide) dX6_reader_21 ?_
      refine gw_goto (tgt := 26) dX6_reader_22 (by decide) ?_
      exact gw_sub [0, 1, 2] rfl (w_X6_reader_26  _ _ _ _ _ _ hB)
  · rw [if_pos hcnd] at hB
    refine gw_iconst (v := (1 : Int32)) (by decide) dX6_reader_8 ?_
    refine gw_goto (tgt := 26) dX6_reader_9 (by decide) ?_
    exact gw_sub [0, 1, 2] rfl (w_X6_reader_26  _ _ _ _ _ _ hB)
noncomputable def f_X6_reader (κ : gK) (F : Nat) (a0 : Option Nat) (a1 : Int32) (a2 : Int32) (s : gS) : Option (Int32 × gS) := f_X6_reader_0 κ F a0 a1 a2 s
theorem m_X6_reader {E : gE} {F : Nat} (a0 : Option Nat) (a1 : Int32) (a2 : Int32) (s : gS) (r : Int32) (s' : gS) (h : f_X6_reader (gk E) F a0 a1 a2 s = some (r, s')) : gCT E 5 yX6_reader (ws_ yX6_reader cX6_reader 3 (some FieldType.int)) [vR a0, vI a1, vI a2] s (.inl (some (vI r))) s' := by
  refine gCT_of2 (fun h => absurd h (by decide)) (plainFor_of_name (by decide)) (Nat.le_of_ble_eq_true rfl) ?_
  exact gw_sub [0, 1, 2] rfl (w_X6_reader_0 _ _ _ _ h)
def dkwX6_tellBed_5 : List UInt8 := [4, 167, 0, 4, 3, 172, 42, 27, 7, 182, 0, 53, 172]
abbrev dktX6_tellBed_5 : List UInt8 := dkwX6_tellBed_5 ++ []
def dkwX6_tellBed_4 : List UInt8 := [160, 0, 12, 42, 27, 6, 182, 0, 53, 167, 0, 6, 17, 252, 24, 172, 42, 27, 182, 0, 60, 153, 0, 7]
abbrev dktX6_tellBed_4 : List UInt8 := dkwX6_tellBed_4 ++ dktX6_tellBed_5
def dkwX6_tellBed_3 : List UInt8 := [29, 153, 0, 9, 17, 252, 24, 167, 0, 9, 42, 27, 5, 182, 0, 53, 172, 42, 27, 3, 182, 0, 53, 5]
abbrev dktX6_tellBed_3 : List UInt8 := dkwX6_tellBed_3 ++ dktX6_tellBed_4
def dkwX6_tellBed_2 : List UInt8 := [42, 27, 3, 182, 0, 53, 172, 29, 153, 0, 9, 17, 252, 24, 167, 0, 9, 42, 27, 4, 182, 0, 53, 172]
abbrev dktX6_tellBed_2 : List UInt8 := dkwX6_tellBed_2 ++ dktX6_tellBed_3
def dkwX6_tellBed_1 : List UInt8 := [170, 0, 0, 0, 0, 0, 0, 114, 0, 0, 0, 0, 0, 0, 0, 4, 0, 0, 0, 36, 0, 0, 0, 43, 0, 0, 0, 60, 0, 0, 0, 77, 0, 0, 0, 100]
abbrev dktX6_tellBed_1 : List UInt8 := dkwX6_tellBed_1 ++ dktX6_tellBed_2
def dkwX6_tellBed_0 : List UInt8 := [42, 27, 3, 182, 0, 53, 154, 0, 7, 4, 167, 0, 4, 3, 62, 28]
abbrev dktX6_tellBed_0 : List UInt8 := dkwX6_tellBed_0 ++ dktX6_tellBed_1
theorem dksX6_tellBed_0 : cX6_tellBed.data.toList.drop 0 = dktX6_tellBed_0 := by decide +kernel
theorem dksX6_tellBed_1 : cX6_tellBed.data.toList.drop 16 = dktX6_tellBed_1 := dk_seg dksX6_tellBed_0 16 rfl rfl
theorem dksX6_tellBed_2 : cX6_tellBed.data.toList.drop 52 = dktX6_tellBed_2 := dk_seg dksX6_tellBed_1 36 rfl rfl
theorem dksX6_tellBed_3 : cX6_tellBed.data.toList.drop 76 = dktX6_tellBed_3 := dk_seg dksX6_tellBed_2 24 rfl rfl
theorem dksX6_tellBed_4 : cX6_tellBed.data.toList.drop 100 = dktX6_tellBed_4 := dk_seg dksX6_tellBed_3 24 rfl rfl
theorem dksX6_tellBed_5 : cX6_tellBed.data.toList.drop 124 = dktX6_tellBed_5 := dk_seg dksX6_tellBed_4 24 rfl rfl
theorem dX6_tellBed_0 : decode cX6_tellBed 0 = .ok (.aload_n 0, 1) := dk_42 (dk_at dksX6_tellBed_0 0 rfl rfl)
theorem dX6_tellBed_1 : decode cX6_tellBed 1 = .ok (.iload_n 1, 1) := dk_27 (dk_at dksX6_tellBed_0 1 rfl rfl)
theorem dX6_tellBed_2 : decode cX6_tellBed 2 = .ok (.iconst 0, 1) := dk_3 (dk_at dksX6_tellBed_0 2 rfl rfl)
theorem dX6_tellBed_3 : decode cX6_tellBed 3 = .ok (.invokevirtual 53, 3) := dk_182 0 53 (dk_at dksX6_tellBed_0 3 rfl rfl)
theorem dX6_tellBed_6 : decode cX6_tellBed 6 = .ok (.ifCond .ne 7, 3) := dk_154 0 7 (dk_at dksX6_tellBed_0 6 rfl rfl)
theorem dX6_tellBed_9 : decode cX6_tellBed 9 = .ok (.iconst 1, 1) := dk_4 (dk_at dksX6_tellBed_0 9 rfl rfl)
theorem dX6_tellBed_10 : decode cX6_tellBed 10 = .ok (.goto 4, 3) := dk_167 0 4 (dk_at dksX6_tellBed_0 10 rfl rfl)
theorem dX6_tellBed_13 : decode cX6_tellBed 13 = .ok (.iconst 0, 1) := dk_3 (dk_at dksX6_tellBed_0 13 rfl rfl)
theorem dX6_tellBed_14 : decode cX6_tellBed 14 = .ok (.istore_n 3, 1) := dk_62 (dk_at dksX6_tellBed_0 14 rfl rfl)
theorem dX6_tellBed_15 : decode cX6_tellBed 15 = .ok (.iload_n 2, 1) := dk_28 (dk_at dksX6_tellBed_0 15 rfl rfl)
theorem dX6_tellBed_16 : decode cX6_tellBed 16 = .ok (.tableswitch 114 0 4 #[36, 43, 60, 77, 100], 36) := by decide +kernel
theorem dX6_tellBed_52 : decode cX6_tellBed 52 = .ok (.aload_n 0, 1) := dk_42 (dk_at dksX6_tellBed_2 0 rfl rfl)
theorem dX6_tellBed_53 : decode cX6_tellBed 53 = .ok (.iload_n 1, 1) := dk_27 (dk_at dksX6_tellBed_2 1 rfl rfl)
theorem dX6_tellBed_54 : decode cX6_tellBed 54 = .ok (.iconst 0, 1) := dk_3 (dk_at dksX6_tellBed_2 2 rfl rfl)
theorem dX6_tellBed_55 : decode cX6_tellBed 55 = .ok (.invokevirtual 53, 3) := dk_182 0 53 (dk_at dksX6_tellBed_2 3 rfl rfl)
theorem dX6_tellBed_58 : decode cX6_tellBed 58 = .ok (.ireturn, 1) := dk_172 (dk_at dksX6_tellBed_2 6 rfl rfl)
theorem dX6_tellBed_59 : decode cX6_tellBed 59 = .ok (.iload_n 3, 1) := dk_29 (dk_at dksX6_tellBed_2 7 rfl rfl)
theorem dX6_tellBed_60 : decode cX6_tellBed 60 = .ok (.ifCond .eq 9, 3) := dk_153 0 9 (dk_at dksX6_tellBed_2 8 rfl rfl)
theorem dX6_tellBed_63 : decode cX6_tellBed 63 = .ok (.sipush (-1000), 3) := dk_17 252 24 (dk_at dksX6_tellBed_2 11 rfl rfl)
theorem dX6_tellBed_66 : decode cX6_tellBed 66 = .ok (.goto 9, 3) := dk_167 0 9 (dk_at dksX6_tellBed_2 14 rfl rfl)
theorem dX6_tellBed_69 : decode cX6_tellBed 69 = .ok (.aload_n 0, 1) := dk_42 (dk_at dksX6_tellBed_2 17 rfl rfl)
theorem dX6_tellBed_70 : decode cX6_tellBed 70 = .ok (.iload_n 1, 1) := dk_27 (dk_at dksX6_tellBed_2 18 rfl rfl)
theorem dX6_tellBed_71 : decode cX6_tellBed 71 = .ok (.iconst 1, 1) := dk_4 (dk_at dksX6_tellBed_2 19 rfl rfl)
theorem dX6_tellBed_72 : decode cX6_tellBed 72 = .ok (.invokevirtual 53, 3) := dk_182 0 53 (dk_at dksX6_tellBed_2 20 rfl rfl)
theorem dX6_tellBed_75 : decode cX6_tellBed 75 = .ok (.ireturn, 1) := dk_172 (dk_at dksX6_tellBed_2 23 rfl rfl)
theorem dX6_tellBed_76 : decode cX6_tellBed 76 = .ok (.iload_n 3, 1) := dk_29 (dk_at dksX6_tellBed_3 0 rfl rfl)
theorem dX6_tellBed_77 : decode cX6_tellBed 77 = .ok (.ifCond .eq 9, 3) := dk_153 0 9 (dk_at dksX6_tellBed_3 1 rfl rfl)
theorem dX6_tellBed_80 : decode cX6_tellBed 80 = .ok (.sipush (-1000), 3) := dk_17 252 24 (dk_at dksX6_tellBed_3 4 rfl rfl)
theorem dX6_tellBed_83 : decode cX6_tellBed 83 = .ok (.goto 9, 3) := dk_167 0 9 (dk_at dksX6_tellBed_3 7 rfl rfl)
theorem dX6_tellBed_86 : decode cX6_tellBed 86 = .ok (.aload_n 0, 1) := dk_42 (dk_at dksX6_tellBed_3 10 rfl rfl)
theorem dX6_tellBed_87 : decode cX6_tellBed 87 = .ok (.iload_n 1, 1) := dk_27 (dk_at dksX6_tellBed_3 11 rfl rfl)
theorem dX6_tellBed_88 : decode cX6_tellBed 88 = .ok (.iconst 2, 1) := dk_5 (dk_at dksX6_tellBed_3 12 rfl rfl)
theorem dX6_tellBed_89 : decode cX6_tellBed 89 = .ok (.invokevirtual 53, 3) := dk_182 0 53 (dk_at dksX6_tellBed_3 13 rfl rfl)
theorem dX6_tellBed_92 : decode cX6_tellBed 92 = .ok (.ireturn, 1) := dk_172 (dk_at dksX6_tellBed_3 16 rfl rfl)
theorem dX6_tellBed_93 : decode cX6_tellBed 93 = .ok (.aload_n 0, 1) := dk_42 (dk_at dksX6_tellBed_3 17 rfl rfl)
theorem dX6_tellBed_94 : decode cX6_tellBed 94 = .ok (.iload_n 1, 1) := dk_27 (dk_at dksX6_tellBed_3 18 rfl rfl)
theorem dX6_tellBed_95 : decode cX6_tellBed 95 = .ok (.iconst 0, 1) := dk_3 (dk_at dksX6_tellBed_3 19 rfl rfl)
theorem dX6_tellBed_96 : decode cX6_tellBed 96 = .ok (.invokevirtual 53, 3) := dk_182 0 53 (dk_at dksX6_tellBed_3 20 rfl rfl)
theorem dX6_tellBed_99 : decode cX6_tellBed 99 = .ok (.iconst 2, 1) := dk_5 (dk_at dksX6_tellBed_3 23 rfl rfl)
theorem dX6_tellBed_100 : decode cX6_tellBed 100 = .ok (.if_icmp .ne 12, 3) := dk_160 0 12 (dk_at dksX6_tellBed_4 0 rfl rfl)
theorem dX6_tellBed_103 : decode cX6_tellBed 103 = .ok (.aload_n 0, 1) := dk_42 (dk_at dksX6_tellBed_4 3 rfl rfl)
theorem dX6_tellBed_104 : decode cX6_tellBed 104 = .ok (.iload_n 1, 1) := dk_27 (dk_at dksX6_tellBed_4 4 rfl rfl)
theorem dX6_tellBed_105 : decode cX6_tellBed 105 = .ok (.iconst 3, 1) := dk_6 (dk_at dksX6_tellBed_4 5 rfl rfl)
theorem dX6_tellBed_106 : decode cX6_tellBed 106 = .ok (.invokevirtual 53, 3) := dk_182 0 53 (dk_at dksX6_tellBed_4 6 rfl rfl)
theorem dX6_tellBed_109 : decode cX6_tellBed 109 = .ok (.goto 6, 3) := dk_167 0 6 (dk_at dksX6_tellBed_4 9 rfl rfl)
theorem dX6_tellBed_112 : decode cX6_tellBed 112 = .ok (.sipush (-1000), 3) := dk_17 252 24 (dk_at dksX6_tellBed_4 12 rfl rfl)
theorem dX6_tellBed_115 : decode cX6_tellBed 115 = .ok (.ireturn, 1) := dk_172 (dk_at dksX6_tellBed_4 15 rfl rfl)
theorem dX6_tellBed_116 : decode cX6_tellBed 116 = .ok (.aload_n 0, 1) := dk_42 (dk_at dksX6_tellBed_4 16 rfl rfl)
theorem dX6_tellBed_117 : decode cX6_tellBed 117 = .ok (.iload_n 1, 1) := dk_27 (dk_at dksX6_tellBed_4 17 rfl rfl)
theorem dX6_tellBed_118 : decode cX6_tellBed 118 = .ok (.invokevirtual 60, 3) := dk_182 0 60 (dk_at dksX6_tellBed_4 18 rfl rfl)
theorem dX6_tellBed_121 : decode cX6_tellBed 121 = .ok (.ifCond .eq 7, 3) := dk_153 0 7 (dk_at dksX6_tellBed_4 21 rfl rfl)
theorem dX6_tellBed_124 : decode cX6_tellBed 124 = .ok (.iconst 1, 1) := dk_4 (dk_at dksX6_tellBed_5 0 rfl rfl)
theorem dX6_tellBed_125 : decode cX6_tellBed 125 = .ok (.goto 4, 3) := dk_167 0 4 (dk_at dksX6_tellBed_5 1 rfl rfl)
theorem dX6_tellBed_128 : decode cX6_tellBed 128 = .ok (.iconst 0, 1) := dk_3 (dk_at dksX6_tellBed_5 4 rfl rfl)
theorem dX6_tellBed_129 : decode cX6_tellBed 129 = .ok (.ireturn, 1) := dk_172 (dk_at dksX6_tellBed_5 5 rfl rfl)
theorem dX6_tellBed_130 : decode cX6_tellBed 130 = .ok (.aload_n 0, 1) := dk_42 (dk_at dksX6_tellBed_5 6 rfl rfl)
theorem dX6_tellBed_131 : decode cX6_tellBed 131 = .ok (.iload_n 1, 1) := dk_27 (dk_at dksX6_tellBed_5 7 rfl rfl)
theorem dX6_tellBed_132 : decode cX6_tellBed 132 = .ok (.iconst 4, 1) := dk_7 (dk_at dksX6_tellBed_5 8 rfl rfl)
theorem dX6_tellBed_133 : decode cX6_tellBed 133 = .ok (.invokevirtual 53, 3) := dk_182 0 53 (dk_at dksX6_tellBed_5 9 rfl rfl)
theorem dX6_tellBed_136 : decode cX6_tellBed 136 = .ok (.ireturn, 1) := dk_172 (dk_at dksX6_tellBed_5 12 rfl rfl)
/-! PageGardenModel.tellBed(II)I -/
abbrev M_X6_tellBed (z0 n0 : Nat) (s' : gS) : gM := (RX6, cX6_tellBed, 4, (some FieldType.int), "tellBed", [], 4, z0, n0, s'.2.1, s'.2.2)
abbrev W_X6_tellBed (E : gE) (z0 n0 : Nat) (r : Int32) (s' : gS) (pc : Nat) (L : List (Nat × gV)) (st : List gV) (s : gS) : Prop := gW E (M_X6_tellBed z0 n0 s') (gQm E (M_X6_tellBed z0 n0 s') (.inl (some (vI r))) s') pc L st s
noncomputable def f_X6_tellBed_75 (κ : gK) (F : Nat)  (t0 : Int32) (s : gS) : Option (Int32 × gS) :=
  some (t0, s)
set_option maxHeartbeats 4000000 in
theorem w_X6_tellBed_75 {E : gE} {F z0 n0 : Nat} {r : Int32} {s' : gS}   : ∀  (t0 : Int32) (s : gS), f_X6_tellBed_75 (gk E) F  t0 s = some (r, s') → W_X6_tellBed E z0 n0 r s' 75 [] [vI t0] s := by
  intro t0 s hB
  unfold f_X6_tellBed_75 at hB
  obtain ⟨rfl, rfl⟩ := Prod.mk.inj (Option.some.inj hB)
  exact gw_iret rfl rfl rfl dX6_tellBed_75
noncomputable def f_X6_tellBed_92 (κ : gK) (F : Nat)  (t0 : Int32) (s : gS) : Option (Int32 × gS) :=
  some (t0, s)
set_option maxHeartbeats 4000000 in
theorem w_X6_tellBed_92 {E : gE} {F z0 n0 : Nat} {r : Int32} {s' : gS}   : ∀  (t0 : Int32) (s : gS), f_X6_tellBed_92 (gk E) F  t0 s = some (r, s') → W_X6_tellBed E z0 n0 r s' 92 [] [vI t0] s := by
  intro t0 s hB
  unfold f_X6_tellBed_92 at hB
  obtain ⟨rfl, rfl⟩ := Prod.mk.inj (Option.some.inj hB)
  exact gw_iret rfl rfl rfl dX6_tellBed_92
noncomputable def f_X6_tellBed_115 (κ : gK) (F : Nat)  (t0 : Int32) (s : gS) : Option (Int32 × gS) :=
  some (t0, s)
set_option maxHeartbeats 4000000 in
theorem w_X6_tellBed_115 {E : gE} {F z0 n0 : Nat} {r : Int32} {s' : gS}   : ∀  (t0 : Int32) (s : gS), f_X6_tellBed_115 (gk E) F  t0 s = some (r, s') → W_X6_tellBed E z0 n0 r s' 115 [] [vI t0] s := by
  intro t0 s hB
  unfold f_X6_tellBed_115 at hB
  obtain ⟨rfl, rfl⟩ := Prod.mk.inj (Option.some.inj hB)
  exact gw_iret rfl rfl rfl dX6_tellBed_115
noncomputable def f_X6_tellBed_129 (κ : gK) (F : Nat)  (t0 : Int32) (s : gS) : Option (Int32 × gS) :=
  some (t0, s)
set_option maxHeartbeats 4000000 in
theorem w_X6_tellBed_129 {E : gE} {F z0 n0 : Nat} {r : Int32} {s' : gS}   : ∀  (t0 : Int32) (s : gS), f_X6_tellBed_129 (gk E) F  t0 s = some (r, s') → W_X6_tellBed E z0 n0 r s' 129 [] [vI t0] s := by
  intro t0 s hB
  unfold f_X6_tellBed_129 at hB
  obtain ⟨rfl, rfl⟩ := Prod.mk.inj (Option.some.inj hB)
  exact gw_iret rfl rfl rfl dX6_tellBed_129
noncomputable def f_X6_tellBed_14 (κ : gK) (F : Nat)  (l0 : Option Nat) (l1 : Int32) (l2 : Int32) (t0 : Int32) (s : gS) : Option (Int32 × gS) :=
  if l2 = (0 : Int32) then
    gB1 (gck s l0 9) fun _ =>
    gB2 (f_X6_of κ F l0 l1 (0 : Int32) s) fun v2 s1 =>
    some (v2, s1)
  else
  if l2 = (1 : Int32) then
    if t0 = 0 then
      gB1 (gck s l0 9) fun _ =>
      gB2 (f_X6_of κ F l0 l1 (1 : Int32) s) fun v5 s4 =>
      f_X6_tellBed_75 κ F  v5 s4
    else
      f_X6_tellBed_75 κ F  (-1000 : Int32) s
  else
  if l2 = (2 : Int32) then
    if t0 = 0 then
      gB1 (gck s l0 9) fun _ =>
      gB2 (f_X6_of κ F l0 l1 (2 : Int32) s) fun v8 s7 =>
      f_X6_tellBed_92 κ F  v8 s7
    else
      f_X6_tellBed_92 κ F  (-1000 : Int32) s
  else
  if l2 = (3 : Int32) then
    gB1 (gck s l0 9) fun _ =>
    gB2 (f_X6_of κ F l0 l1 (0 : Int32) s) fun v11 s10 =>
    if v11 = (2 : Int32) then
      gB1 (gck s10 l0 9) fun _ =>
      gB2 (f_X6_of κ F l0 l1 (3 : Int32) s10) fun v14 s13 =>
      f_X6_tellBed_115 κ F  v14 s13
    else
      f_X6_tellBed_115 κ F  (-1000 : Int32) s10
  else
  if l2 = (4 : Int32) then
    gB1 (gck s l0 9) fun _ =>
    gB2 (f_X6_canBeDug κ F l0 l1 s) fun v17 s16 =>
    if v17 = 0 then
      f_X6_tellBed_129 κ F  (0 : Int32) s16
    else
      f_X6_tellBed_129 κ F  (1 : Int32) s16
  else
  gB1 (gck s l0 9) fun _ =>
  gB2 (f_X6_of κ F l0 l1 (4 : Int32) s) fun v20 s19 =>
  some (v20, s19)
set_option maxHeartbeats 4000000 in
theorem w_X6_tellBed_14 {E : gE} {F z0 n0 : Nat} {r : Int32} {s' : gS}   : ∀ (l0 : Option Nat) (l1 : Int32) (l2 : Int32) (t0 : Int32) (s : gS), f_X6_tellBed_14 (gk E) F  l0 l1 l2 t0 s = some (r, s') → W_X6_tellBed E z0 n0 r s' 14 [(0, vR l0), (1, vI l1), (2, vI l2)] [vI t0] s := by
  intro l0 l1 l2 t0 s hB
  unfold f_X6_tellBed_14 at hB
  refine gw_istore_n (L' := [(3, vI t0), (0, vR l0), (1, vI l1), (2, vI l2)]) (Nat.le_of_ble_eq_true rfl) rfl dX6_tellBed_14 ?_
  refine gw_iload_n 3 rfl dX6_tellBed_15 ?_
  by_cases hs0 : l2 = (0 : Int32)
  · rw [if_pos hs0] at hB
    refine gw_tableIn (off := 36) (tgt := 52) (by rw [hs0]; decide) (by rw [hs0]; decide) (by rw [hs0]; rfl) dX6_tellBed_16 (by decide) ?_
    refine gw_aload_n 1 rfl dX6_tellBed_52 ?_
    refine gw_iload_n 2 rfl dX6_tellBed_53 ?_
    refine gw_iconst (v := (0 : Int32)) (by decide) dX6_tellBed_54 ?_
    obtain ⟨u0, hu3, hB⟩ := gB1_some hB
    obtain ⟨v2, s1, hv2, hB⟩ := gB2_some hB
    refine gw_callV (y := yX6_of) (lw_V q2796 q2798 qs58 q143 q2799) hdV_X6_of gcl9 hu3 (As := [vI l1, vI (0 : Int32)]) (rest := []) (m_X6_of _ _ _ _ _ _ hv2) (Nat.le_of_ble_eq_true rfl) (Nat.le_of_ble_eq_true rfl) rfl (Nat.le_of_ble_eq_true rfl) dX6_tellBed_55 (gCont_i ?_)
    obtain ⟨rfl, rfl⟩ := Prod.mk.inj (Option.some.inj hB)
    exact gw_iret rfl rfl rfl dX6_tellBed_58
  rw [if_neg hs0] at hB
  by_cases hs1 : l2 = (1 : Int32)
  · rw [if_pos hs1] at hB
    refine gw_tableIn (off := 43) (tgt := 59) (by rw [hs1]; decide) (by rw [hs1]; decide) (by rw [hs1]; rfl) dX6_tellBed_16 (by decide) ?_
    refine gw_iload_n 0 rfl dX6_tellBed_59 ?_
    refine gw_if_eq (tgt := 69) dX6_tellBed_60 (by decide) (fun hcnd => ?_) (fun hcnd => ?_)
    · rw [if_pos hcnd] at hB
      refine gw_aload_n 1 rfl dX6_tellBed_69 ?_
      refine gw_iload_n 2 rfl dX6_tellBed_70 ?_
      refine gw_iconst (v := (1 : Int32)) (by decide) dX6_tellBed_71 ?_
      obtain ⟨u0, hu6, hB⟩ := gB1_some hB
      obtain ⟨v5, s4, hv5, hB⟩ := gB2_some hB
      refine gw_callV (y := yX6_of) (lw_V q2796 q2798 qs58 q143 q2799) hdV_X6_of gcl9 hu6 (As := [vI l1, vI (1 : Int32)]) (rest := []) (m_X6_of _ _ _ _ _ _ hv5) (Nat.le_of_ble_eq_true rfl) (Nat.le_of_ble_eq_true rfl) rfl (Nat.le_of_ble_eq_true rfl) dX6_tellBed_72 (gCont_i ?_)
      exact gw_sub [] rfl (w_X6_tellBed_75  _ _ hB)
    · rw [if_neg hcnd] at hB
      refine gw_sipush (v := (-1000 : Int32)) (by decide) dX6_tellBed_63 ?_
      refine gw_goto (tgt := 75) dX6_tellBed_66 (by decide) ?_
      exact gw_sub [] rfl (w_X6_tellBed_75  _ _ hB)
  rw [if_neg hs1] at hB
  by_cases hs2 : l2 = (2 : Int32)
  · rw [if_pos hs2] at hB
    refine gw_tableIn (off := 60) (tgt := 76) (by rw [hs2]; decide) (by rw [hs2]; decide) (by rw [hs2]; rfl) dX6_tellBed_16 (by decide) ?_
    refine gw_iload_n 0 rfl dX6_tellBed_76 ?_
    refine gw_if_eq (tgt := 86) dX6_tellBed_77 (by decide) (fun hcnd => ?_) (fun hcnd => ?_)
    · rw [if_pos hcnd] at hB
      refine gw_aload_n 1 rfl dX6_tellBed_86 ?_
      refine gw_iload_n 2 rfl dX6_tellBed_87 ?_
      refine gw_iconst (v := (2 : Int32)) (by decide) dX6_tellBed_88 ?_
      obtain ⟨u0, hu9, hB⟩ := gB1_some hB
      obtain ⟨v8, s7, hv8, hB⟩ := gB2_some hB
      refine gw_callV (y := yX6_of) (lw_V q2796 q2798 qs58 q143 q2799) hdV_X6_of gcl9 hu9 (As := [vI l1, vI (2 : Int32)]) (rest := []) (m_X6_of _ _ _ _ _ _ hv8) (Nat.le_of_ble_eq_true rfl) (Nat.le_of_ble_eq_true rfl) rfl (Nat.le_of_ble_eq_true rfl) dX6_tellBed_89 (gCont_i ?_)
      exact gw_sub [] rfl (w_X6_tellBed_92  _ _ hB)
    · rw [if_neg hcnd] at hB
      refine gw_sipush (v := (-1000 : Int32)) (by decide) dX6_tellBed_80 ?_
      refine gw_goto (tgt := 92) dX6_tellBed_83 (by decide) ?_
      exact gw_sub [] rfl (w_X6_tellBed_92  _ _ hB)
  rw [if_neg hs2] at hB
  by_cases hs3 : l2 = (3 : Int32)
  · rw [if_pos hs3] at hB
    refine gw_tableIn (off := 77) (tgt := 93) (by rw [hs3]; decide) (by rw [hs3]; decide) (by rw [hs3]; rfl) dX6_tellBed_16 (by decide) ?_
    refine gw_aload_n 1 rfl dX6_tellBed_93 ?_
    refine gw_iload_n 2 rfl dX6_tellBed_94 ?_
    refine gw_iconst (v := (0 : Int32)) (by decide) dX6_tellBed_95 ?_
    obtain ⟨u0, hu12, hB⟩ := gB1_some hB
    obtain ⟨v11, s10, hv11, hB⟩ := gB2_some hB
    refine gw_callV (y := yX6_of) (lw_V q2796 q2798 qs58 q143 q2799) hdV_X6_of gcl9 hu12 (As := [vI l1, vI (0 : Int32)]) (rest := []) (m_X6_of _ _ _ _ _ _ hv11) (Nat.le_of_ble_eq_true rfl) (Nat.le_of_ble_eq_true rfl) rfl (Nat.le_of_ble_eq_true rfl) dX6_tellBed_96 (gCont_i ?_)
    refine gw_iconst (v := (2 : Int32)) (by decide) dX6_tellBed_99 ?_
    refine gw_icmp_ne (tgt := 112) dX6_tellBed_100 (by decide) (fun hcnd => ?_) (fun hcnd => ?_)
    · rw [if_neg hcnd] at hB
      refine gw_sipush (v := (-1000 : Int32)) (by decide) dX6_tellBed_112 ?_
      exact gw_sub [] rfl (w_X6_tellBed_115  _ _ hB)
    · rw [if_pos hcnd] at hB
      refine gw_aload_n 1 rfl dX6_tellBed_103 ?_
      refine gw_iload_n 2 rfl dX6_tellBed_104 ?_
      refine gw_iconst (v := (3 : Int32)) (by decide) dX6_tellBed_105 ?_
      obtain ⟨u0, hu15, hB⟩ := gB1_some hB
      obtain ⟨v14, s13, hv14, hB⟩ := gB2_some hB
      refine gw_callV (y := yX6_of) (lw_V q2796 q2798 qs58 q143 q2799) hdV_X6_of gcl9 hu15 (As := [vI l1, vI (3 : Int32)]) (rest := []) (m_X6_of _ _ _ _ _ _ hv14) (Nat.le_of_ble_eq_true rfl) (Nat.le_of_ble_eq_true rfl) rfl (Nat.le_of_ble_eq_true rfl) dX6_tellBed_106 (gCont_i ?_)
      refine gw_goto (tgt := 115) dX6_tellBed_109 (by decide) ?_
      exact gw_sub [] rfl (w_X6_tellBed_115  _ _ hB)
  rw [if_neg hs3] at hB
  by_cases hs4 : l2 = (4 : Int32)
  · rw [if_pos hs4] at hB
    refine gw_tableIn (off := 100) (tgt := 116) (by rw [hs4]; decide) (by rw [hs4]; decide) (by rw [hs4]; rfl) dX6_tellBed_16 (by decide) ?_
    refine gw_aload_n 1 rfl dX6_tellBed_116 ?_
    refine gw_iload_n 2 rfl dX6_tellBed_117 ?_
    obtain ⟨u0, hu18, hB⟩ := gB1_some hB
    obtain ⟨v17, s16, hv17, hB⟩ := gB2_some hB
    refine gw_callV (y := yX6_canBeDug) (lw_V q2816 q2818 qs63 q143 q2819) hdV_X6_canBeDug gcl9 hu18 (As := [vI l1]) (rest := []) (m_X6_canBeDug _ _ _ _ _ hv17) (Nat.le_of_ble_eq_true rfl) (Nat.le_of_ble_eq_true rfl) rfl (Nat.le_of_ble_eq_true rfl) dX6_tellBed_118 (gCont_i ?_)
    refine gw_if_eq (tgt := 128) dX6_tellBed_121 (by decide) (fun hcnd => ?_) (fun hcnd => ?_)
    · rw [if_pos hcnd] at hB
      refine gw_iconst (v := (0 : Int32)) (by decide) dX6_tellBed_128 ?_
      exact gw_sub [] rfl (w_X6_tellBed_129  _ _ hB)
    · rw [if_neg hcnd] at hB
      refine gw_iconst (v := (1 : Int32)) (by decide) dX6_tellBed_124 ?_
      refine gw_goto (tgt := 129) dX6_tellBed_125 (by decide) ?_
      exact gw_sub [] rfl (w_X6_tellBed_129  _ _ hB)
  rw [if_neg hs4] at hB
  have ht0 : l2.toInt ≠ 0 := fun e => hs0 (Int32.toInt_inj.mp (e.trans (by decide)))
  have ht1 : l2.toInt ≠ 1 := fun e => hs1 (Int32.toInt_inj.mp (e.trans (by decide)))
  have ht2 : l2.toInt ≠ 2 := fun e => hs2 (Int32.toInt_inj.mp (e.trans (by decide)))
  have ht3 : l2.toInt ≠ 3 := fun e => hs3 (Int32.toInt_inj.mp (e.trans (by decide)))
  have ht4 : l2.toInt ≠ 4 := fun e => hs4 (Int32.toInt_inj.mp (e.trans (by decide)))
  refine gw_tableOut (tgt := 130) (by omega) dX6_tellBed_16 (by decide) ?_
  refine gw_aload_n 1 rfl dX6_tellBed_130 ?_
  refine gw_iload_n 2 rfl dX6_tellBed_131 ?_
  refine gw_iconst (v := (4 : Int32)) (by decide) dX6_tellBed_132 ?_
  obtain ⟨u0, hu21, hB⟩ := gB1_some hB
  obtain ⟨v20, s19, hv20, hB⟩ := gB2_some hB
  refine gw_callV (y := yX6_of) (lw_V q2796 q2798 qs58 q143 q2799) hdV_X6_of gcl9 hu21 (As := [vI l1, vI (4 : Int32)]) (rest := []) (m_X6_of _ _ _ _ _ _ hv20) (Nat.le_of_ble_eq_true rfl) (Nat.le_of_ble_eq_true rfl) rfl (Nat.le_of_ble_eq_true rfl) dX6_tellBed_133 (gCont_i ?_)
  obtain ⟨rfl, rfl⟩ := Prod.mk.inj (Option.some.inj hB)
  exact gw_iret rfl rfl rfl dX6_tellBed_136
noncomputable def f_X6_tellBed_0 (κ : gK) (F : Nat)  (l0 : Option Nat) (l1 : Int32) (l2 : Int32) (s : gS) : Option (Int32 × gS) :=
  gB1 (gck s l0 9) fun _ =>
  gB2 (f_X6_of κ F l0 l1 (0 : Int32) s) fun v2 s1 =>
  if v2 = 0 then
    f_X6_tellBed_14 κ F  l0 l1 l2 (1 : Int32) s1
  else
    f_X6_tellBed_14 κ F  l0 l1 l2 (0 : Int32) s1
set_option maxHeartbeats 4000000 in
theorem w_X6_tellBed_0 {E : gE} {F z0 n0 : Nat} {r : Int32} {s' : gS}   : ∀ (l0 : Option Nat) (l1 : Int32) (l2 : Int32)  (s : gS), f_X6_tellBed_0 (gk E) F  l0 l1 l2 s = some (r, s') → W_X6_tellBed E z0 n0 r s' 0 [(0, vR l0), (1, vI l1), (2, vI l2)] [] s := by
  intro l0 l1 l2 s hB
  unfold f_X6_tellBed_0 at hB
  refine gw_aload_n 0 rfl dX6_tellBed_0 ?_
  refine gw_iload_n 1 rfl dX6_tellBed_1 ?_
  refine gw_iconst (v := (0 : Int32)) (by decide) dX6_tellBed_2 ?_
  obtain ⟨u0, hu3, hB⟩ := gB1_some hB
  obtain ⟨v2, s1, hv2, hB⟩ := gB2_some hB
  refine gw_callV (y := yX6_of) (lw_V q2796 q2798 qs58 q143 q2799) hdV_X6_of gcl9 hu3 (As := [vI l1, vI (0 : Int32)]) (rest := []) (m_X6_of _ _ _ _ _ _ hv2) (Nat.le_of_ble_eq_true rfl) (Nat.le_of_ble_eq_true rfl) rfl (Nat.le_of_ble_eq_true rfl) dX6_tellBed_3 (gCont_i ?_)
  refine gw_if_ne (tgt := 13) dX6_tellBed_6 (by decide) (fun hcnd => ?_) (fun hcnd => ?_)
  · rw [if_neg hcnd] at hB
    refine gw_iconst (v := (0 : Int32)) (by decide) dX6_tellBed_13 ?_
    exact gw_sub [0, 1, 2] rfl (w_X6_tellBed_14  _ _ _ _ _ hB)
  · rw [if_pos hcnd] at hB
    refine gw_iconst (v := (1 : Int32)) (by decide) dX6_tellBed_9 ?_
    refine gw_goto (tgt := 14) dX6_tellBed_10 (by decide) ?_
    exact gw_sub [0, 1, 2] rfl (w_X6_tellBed_14  _ _ _ _ _ hB)
noncomputable def f_X6_tellBed (κ : gK) (F : Nat) (a0 : Option Nat) (a1 : Int32) (a2 : Int32) (s : gS) : Option (Int32 × gS) := f_X6_tellBed_0 κ F a0 a1 a2 s
theorem m_X6_tellBed {E : gE} {F : Nat} (a0 : Option Nat) (a1 : Int32) (a2 : Int32) (s : gS) (r : Int32) (s' : gS) (h : f_X6_tellBed (gk E) F a0 a1 a2 s = some (r, s')) : gCT E 4 yX6_tellBed (ws_ yX6_tellBed cX6_tellBed 4 (some FieldType.int)) [vR a0, vI a1, vI a2] s (.inl (some (vI r))) s' := by
  refine gCT_of2 (fun h => absurd h (by decide)) (plainFor_of_name (by decide)) (Nat.le_of_ble_eq_true rfl) ?_
  exact gw_sub [0, 1, 2] rfl (w_X6_tellBed_0 _ _ _ _ h)
def dkwX6_bed_2 : List UInt8 := [3, 172]
abbrev dktX6_bed_2 : List UInt8 := dkwX6_bed_2 ++ []
def dkwX6_bed_1 : List UInt8 := [5, 167, 0, 4, 3, 181, 0, 28, 42, 180, 0, 28, 154, 0, 12, 42, 27, 28, 182, 0, 199, 167, 0, 4]
abbrev dktX6_bed_1 : List UInt8 := dkwX6_bed_1 ++ dktX6_bed_2
def dkwX6_bed_0 : List UInt8 := [42, 27, 3, 16, 31, 184, 0, 113, 154, 0, 7, 4, 167, 0, 17, 28, 3, 8, 184, 0, 113, 154, 0, 7]
abbrev dktX6_bed_0 : List UInt8 := dkwX6_bed_0 ++ dktX6_bed_1
theorem dksX6_bed_0 : cX6_bed.data.toList.drop 0 = dktX6_bed_0 := by decide +kernel
theorem dksX6_bed_1 : cX6_bed.data.toList.drop 24 = dktX6_bed_1 := dk_seg dksX6_bed_0 24 rfl rfl
theorem dksX6_bed_2 : cX6_bed.data.toList.drop 48 = dktX6_bed_2 := dk_seg dksX6_bed_1 24 rfl rfl
theorem dX6_bed_0 : decode cX6_bed 0 = .ok (.aload_n 0, 1) := dk_42 (dk_at dksX6_bed_0 0 rfl rfl)
theorem dX6_bed_1 : decode cX6_bed 1 = .ok (.iload_n 1, 1) := dk_27 (dk_at dksX6_bed_0 1 rfl rfl)
theorem dX6_bed_2 : decode cX6_bed 2 = .ok (.iconst 0, 1) := dk_3 (dk_at dksX6_bed_0 2 rfl rfl)
theorem dX6_bed_3 : decode cX6_bed 3 = .ok (.bipush 31, 2) := dk_16 31 (dk_at dksX6_bed_0 3 rfl rfl)
theorem dX6_bed_5 : decode cX6_bed 5 = .ok (.invokestatic 113, 3) := dk_184 0 113 (dk_at dksX6_bed_0 5 rfl rfl)
theorem dX6_bed_8 : decode cX6_bed 8 = .ok (.ifCond .ne 7, 3) := dk_154 0 7 (dk_at dksX6_bed_0 8 rfl rfl)
theorem dX6_bed_11 : decode cX6_bed 11 = .ok (.iconst 1, 1) := dk_4 (dk_at dksX6_bed_0 11 rfl rfl)
theorem dX6_bed_12 : decode cX6_bed 12 = .ok (.goto 17, 3) := dk_167 0 17 (dk_at dksX6_bed_0 12 rfl rfl)
theorem dX6_bed_15 : decode cX6_bed 15 = .ok (.iload_n 2, 1) := dk_28 (dk_at dksX6_bed_0 15 rfl rfl)
theorem dX6_bed_16 : decode cX6_bed 16 = .ok (.iconst 0, 1) := dk_3 (dk_at dksX6_bed_0 16 rfl rfl)
theorem dX6_bed_17 : decode cX6_bed 17 = .ok (.iconst 5, 1) := dk_8 (dk_at dksX6_bed_0 17 rfl rfl)
theorem dX6_bed_18 : decode cX6_bed 18 = .ok (.invokestatic 113, 3) := dk_184 0 113 (dk_at dksX6_bed_0 18 rfl rfl)
theorem dX6_bed_21 : decode cX6_bed 21 = .ok (.ifCond .ne 7, 3) := dk_154 0 7 (dk_at dksX6_bed_0 21 rfl rfl)
theorem dX6_bed_24 : decode cX6_bed 24 = .ok (.iconst 2, 1) := dk_5 (dk_at dksX6_bed_1 0 rfl rfl)
theorem dX6_bed_25 : decode cX6_bed 25 = .ok (.goto 4, 3) := dk_167 0 4 (dk_at dksX6_bed_1 1 rfl rfl)
theorem dX6_bed_28 : decode cX6_bed 28 = .ok (.iconst 0, 1) := dk_3 (dk_at dksX6_bed_1 4 rfl rfl)
theorem dX6_bed_29 : decode cX6_bed 29 = .ok (.putfield 28, 3) := dk_181 0 28 (dk_at dksX6_bed_1 5 rfl rfl)
theorem dX6_bed_32 : decode cX6_bed 32 = .ok (.aload_n 0, 1) := dk_42 (dk_at dksX6_bed_1 8 rfl rfl)
theorem dX6_bed_33 : decode cX6_bed 33 = .ok (.getfield 28, 3) := dk_180 0 28 (dk_at dksX6_bed_1 9 rfl rfl)
theorem dX6_bed_36 : decode cX6_bed 36 = .ok (.ifCond .ne 12, 3) := dk_154 0 12 (dk_at dksX6_bed_1 12 rfl rfl)
theorem dX6_bed_39 : decode cX6_bed 39 = .ok (.aload_n 0, 1) := dk_42 (dk_at dksX6_bed_1 15 rfl rfl)
theorem dX6_bed_40 : decode cX6_bed 40 = .ok (.iload_n 1, 1) := dk_27 (dk_at dksX6_bed_1 16 rfl rfl)
theorem dX6_bed_41 : decode cX6_bed 41 = .ok (.iload_n 2, 1) := dk_28 (dk_at dksX6_bed_1 17 rfl rfl)
theorem dX6_bed_42 : decode cX6_bed 42 = .ok (.invokevirtual 199, 3) := dk_182 0 199 (dk_at dksX6_bed_1 18 rfl rfl)
theorem dX6_bed_45 : decode cX6_bed 45 = .ok (.goto 4, 3) := dk_167 0 4 (dk_at dksX6_bed_1 21 rfl rfl)
theorem dX6_bed_48 : decode cX6_bed 48 = .ok (.iconst 0, 1) := dk_3 (dk_at dksX6_bed_2 0 rfl rfl)
theorem dX6_bed_49 : decode cX6_bed 49 = .ok (.ireturn, 1) := dk_172 (dk_at dksX6_bed_2 1 rfl rfl)
/-! PageGardenModel.bed(II)I -/
abbrev M_X6_bed (z0 n0 : Nat) (s' : gS) : gM := (RX6, cX6_bed, 3, (some FieldType.int), "bed", [], 5, z0, n0, s'.2.1, s'.2.2)
abbrev W_X6_bed (E : gE) (z0 n0 : Nat) (r : Int32) (s' : gS) (pc : Nat) (L : List (Nat × gV)) (st : List gV) (s : gS) : Prop := gW E (M_X6_bed z0 n0 s') (gQm E (M_X6_bed z0 n0 s') (.inl (some (vI r))) s') pc L st s
noncomputable def f_X6_bed_49 (κ : gK) (F : Nat)  (t0 : Int32) (s : gS) : Option (Int32 × gS) :=
  some (t0, s)
set_option maxHeartbeats 4000000 in
theorem w_X6_bed_49 {E : gE} {F z0 n0 : Nat} {r : Int32} {s' : gS}   : ∀  (t0 : Int32) (s : gS), f_X6_bed_49 (gk E) F  t0 s = some (r, s') → W_X6_bed E z0 n0 r s' 49 [] [vI t0] s := by
  intro t0 s hB
  unfold f_X6_bed_49 at hB
  obtain ⟨rfl, rfl⟩ := Prod.mk.inj (Option.some.inj hB)
  exact gw_iret rfl rfl rfl dX6_bed_49
noncomputable def f_X6_bed_29 (κ : gK) (F : Nat)  (l0 : Option Nat) (l1 : Int32) (l2 : Int32) (t0 : Option Nat) (t1 : Int32) (s : gS) : Option (Int32 × gS) :=
  gB1 (gpf κ s t0 9 6 (.int t1)) fun s1 =>
  gB1 (gfI s1 l0 9 6) fun v2 =>
  if v2 = 0 then
    gB1 (gck s1 l0 9) fun _ =>
    gB2 (f_X6_tellBed κ F l0 l1 l2 s1) fun v4 s3 =>
    f_X6_bed_49 κ F  v4 s3
  else
    f_X6_bed_49 κ F  (0 : Int32) s1
set_option maxHeartbeats 4000000 in
theorem w_X6_bed_29 {E : gE} {F z0 n0 : Nat} {r : Int32} {s' : gS}   : ∀ (l0 : Option Nat) (l1 : Int32) (l2 : Int32) (t0 : Option Nat) (t1 : Int32) (s : gS), f_X6_bed_29 (gk E) F  l0 l1 l2 t0 t1 s = some (r, s') → W_X6_bed E z0 n0 r s' 29 [(0, vR l0), (1, vI l1), (2, vI l2)] [vI t1, vR t0] s := by
  intro l0 l1 l2 t0 t1 s hB
  unfold f_X6_bed_29 at hB
  obtain ⟨s1, hs1, hB⟩ := gB1_some hB
  refine gw_putf (C := RX6) (T := TX6) (N := 13) (k := 6) tyX6 tyX6_ok nmX6 gcl9 (by decide) in_X6 q2700 rfl (tyX6_ok 6 (by decide)) (gNF_i _) hs1 dX6_bed_29 ?_
  refine gw_aload_n 0 rfl dX6_bed_32 ?_
  obtain ⟨v2, hv2, hB⟩ := gB1_some hB
  refine gw_getf (C := RX6) (T := TX6) (N := 13) (k := 6) gcl9 (by decide) in_X6 q2700 (gfI_spec hv2) dX6_bed_33 ?_
  refine gw_if_ne (tgt := 48) dX6_bed_36 (by decide) (fun hcnd => ?_) (fun hcnd => ?_)
  · rw [if_neg hcnd] at hB
    refine gw_iconst (v := (0 : Int32)) (by decide) dX6_bed_48 ?_
    exact gw_sub [] rfl (w_X6_bed_49  _ _ hB)
  · rw [if_pos hcnd] at hB
    refine gw_aload_n 0 rfl dX6_bed_39 ?_
    refine gw_iload_n 1 rfl dX6_bed_40 ?_
    refine gw_iload_n 2 rfl dX6_bed_41 ?_
    obtain ⟨u0, hu5, hB⟩ := gB1_some hB
    obtain ⟨v4, s3, hv4, hB⟩ := gB2_some hB
    refine gw_callV (y := yX6_tellBed) (lw_V q2990 q2992 qs93 q143 q2993) hdV_X6_tellBed gcl9 hu5 (As := [vI l1, vI l2]) (rest := []) (m_X6_tellBed _ _ _ _ _ _ hv4) (Nat.le_of_ble_eq_true rfl) (Nat.le_of_ble_eq_true rfl) rfl (Nat.le_of_ble_eq_true rfl) dX6_bed_42 (gCont_i ?_)
    refine gw_goto (tgt := 49) dX6_bed_45 (by decide) ?_
    exact gw_sub [] rfl (w_X6_bed_49  _ _ hB)
noncomputable def f_X6_bed_0 (κ : gK) (F : Nat)  (l0 : Option Nat) (l1 : Int32) (l2 : Int32) (s : gS) : Option (Int32 × gS) :=
  gB2 (f_X6_in κ F l1 (0 : Int32) (31 : Int32) s) fun v2 s1 =>
  if v2 = 0 then
    f_X6_bed_29 κ F  l0 l1 l2 l0 (1 : Int32) s1
  else
    gB2 (f_X6_in κ F l2 (0 : Int32) (5 : Int32) s1) fun v4 s3 =>
    if v4 = 0 then
      f_X6_bed_29 κ F  l0 l1 l2 l0 (2 : Int32) s3
    else
      f_X6_bed_29 κ F  l0 l1 l2 l0 (0 : Int32) s3
set_option maxHeartbeats 4000000 in
theorem w_X6_bed_0 {E : gE} {F z0 n0 : Nat} {r : Int32} {s' : gS}   : ∀ (l0 : Option Nat) (l1 : Int32) (l2 : Int32)  (s : gS), f_X6_bed_0 (gk E) F  l0 l1 l2 s = some (r, s') → W_X6_bed E z0 n0 r s' 0 [(0, vR l0), (1, vI l1), (2, vI l2)] [] s := by
  intro l0 l1 l2 s hB
  unfold f_X6_bed_0 at hB
  refine gw_aload_n 0 rfl dX6_bed_0 ?_
  refine gw_iload_n 1 rfl dX6_bed_1 ?_
  refine gw_iconst (v := (0 : Int32)) (by decide) dX6_bed_2 ?_
  refine gw_bipush (v := (31 : Int32)) (by decide) dX6_bed_3 ?_
  obtain ⟨v2, s1, hv2, hB⟩ := gB2_some hB
  refine gw_callS (y := yX6_in) (lw_S q2777 q2778 q143 q2779) hdS_X6_in (As := [vI l1, vI (0 : Int32), vI (31 : Int32)]) (rest := [vR l0]) (m_X6_in _ _ _ _ _ _ hv2) (Nat.le_of_ble_eq_true rfl) (Nat.le_of_ble_eq_true rfl) rfl (Nat.le_of_ble_eq_true rfl) dX6_bed_5 (gCont_i ?_)
  refine gw_if_ne (tgt := 15) dX6_bed_8 (by decide) (fun hcnd => ?_) (fun hcnd => ?_)
  · rw [if_neg hcnd] at hB
    refine gw_iload_n 2 rfl dX6_bed_15 ?_
    refine gw_iconst (v := (0 : Int32)) (by decide) dX6_bed_16 ?_
    refine gw_iconst (v := (5 : Int32)) (by decide) dX6_bed_17 ?_
    obtain ⟨v4, s3, hv4, hB⟩ := gB2_some hB
    refine gw_callS (y := yX6_in) (lw_S q2777 q2778 q143 q2779) hdS_X6_in (As := [vI l2, vI (0 : Int32), vI (5 : Int32)]) (rest := [vR l0]) (m_X6_in _ _ _ _ _ _ hv4) (Nat.le_of_ble_eq_true rfl) (Nat.le_of_ble_eq_true rfl) rfl (Nat.le_of_ble_eq_true rfl) dX6_bed_18 (gCont_i ?_)
    refine gw_if_ne (tgt := 28) dX6_bed_21 (by decide) (fun hcnd => ?_) (fun hcnd => ?_)
    · rw [if_neg hcnd] at hB
      refine gw_iconst (v := (0 : Int32)) (by decide) dX6_bed_28 ?_
      exact gw_sub [0, 1, 2] rfl (w_X6_bed_29  _ _ _ _ _ _ hB)
    · rw [if_pos hcnd] at hB
      refine gw_iconst (v := (2 : Int32)) (by decide) dX6_bed_24 ?_
      refine gw_goto (tgt := 29) dX6_bed_25 (by decide) ?_
      exact gw_sub [0, 1, 2] rfl (w_X6_bed_29  _ _ _ _ _ _ hB)
  · rw [if_pos hcnd] at hB
    refine gw_iconst (v := (1 : Int32)) (by decide) dX6_bed_11 ?_
    refine gw_goto (tgt := 29) dX6_bed_12 (by decide) ?_
    exact gw_sub [0, 1, 2] rfl (w_X6_bed_29  _ _ _ _ _ _ hB)
noncomputable def f_X6_bed (κ : gK) (F : Nat) (a0 : Option Nat) (a1 : Int32) (a2 : Int32) (s : gS) : Option (Int32 × gS) := f_X6_bed_0 κ F a0 a1 a2 s
theorem m_X6_bed {E : gE} {F : Nat} (a0 : Option Nat) (a1 : Int32) (a2 : Int32) (s : gS) (r : Int32) (s' : gS) (h : f_X6_bed (gk E) F a0 a1 a2 s = some (r, s')) : gCT E 5 yX6_bed (ws_ yX6_bed cX6_bed 3 (some FieldType.int)) [vR a0, vI a1, vI a2] s (.inl (some (vI r))) s' := by
  refine gCT_of2 (fun h => absurd h (by decide)) (plainFor_of_name (by decide)) (Nat.le_of_ble_eq_true rfl) ?_
  exact gw_sub [0, 1, 2] rfl (w_X6_bed_0 _ _ _ _ h)
def dkwX6_bedsWith_1 : List UInt8 := [4, 167, 0, 4, 3, 96, 62, 132, 4, 1, 167, 255, 227, 29, 172]
abbrev dktX6_bedsWith_1 : List UInt8 := dkwX6_bedsWith_1 ++ []
def dkwX6_bedsWith_0 : List UInt8 := [3, 62, 3, 54, 4, 21, 4, 16, 32, 162, 0, 28, 29, 42, 21, 4, 27, 182, 0, 53, 28, 160, 0, 7]
abbrev dktX6_bedsWith_0 : List UInt8 := dkwX6_bedsWith_0 ++ dktX6_bedsWith_1
theorem dksX6_bedsWith_0 : cX6_bedsWith.data.toList.drop 0 = dktX6_bedsWith_0 := by decide +kernel
theorem dksX6_bedsWith_1 : cX6_bedsWith.data.toList.drop 24 = dktX6_bedsWith_1 := dk_seg dksX6_bedsWith_0 24 rfl rfl
theorem dX6_bedsWith_0 : decode cX6_bedsWith 0 = .ok (.iconst 0, 1) := dk_3 (dk_at dksX6_bedsWith_0 0 rfl rfl)
theorem dX6_bedsWith_1 : decode cX6_bedsWith 1 = .ok (.istore_n 3, 1) := dk_62 (dk_at dksX6_bedsWith_0 1 rfl rfl)
theorem dX6_bedsWith_2 : decode cX6_bedsWith 2 = .ok (.iconst 0, 1) := dk_3 (dk_at dksX6_bedsWith_0 2 rfl rfl)
theorem dX6_bedsWith_3 : decode cX6_bedsWith 3 = .ok (.istore 4, 2) := dk_54 4 (dk_at dksX6_bedsWith_0 3 rfl rfl)
theorem dX6_bedsWith_5 : decode cX6_bedsWith 5 = .ok (.iload 4, 2) := dk_21 4 (dk_at dksX6_bedsWith_0 5 rfl rfl)
theorem dX6_bedsWith_7 : decode cX6_bedsWith 7 = .ok (.bipush 32, 2) := dk_16 32 (dk_at dksX6_bedsWith_0 7 rfl rfl)
theorem dX6_bedsWith_9 : decode cX6_bedsWith 9 = .ok (.if_icmp .ge 28, 3) := dk_162 0 28 (dk_at dksX6_bedsWith_0 9 rfl rfl)
theorem dX6_bedsWith_12 : decode cX6_bedsWith 12 = .ok (.iload_n 3, 1) := dk_29 (dk_at dksX6_bedsWith_0 12 rfl rfl)
theorem dX6_bedsWith_13 : decode cX6_bedsWith 13 = .ok (.aload_n 0, 1) := dk_42 (dk_at dksX6_bedsWith_0 13 rfl rfl)
theorem dX6_bedsWith_14 : decode cX6_bedsWith 14 = .ok (.iload 4, 2) := dk_21 4 (dk_at dksX6_bedsWith_0 14 rfl rfl)
theorem dX6_bedsWith_16 : decode cX6_bedsWith 16 = .ok (.iload_n 1, 1) := dk_27 (dk_at dksX6_bedsWith_0 16 rfl rfl)
theorem dX6_bedsWith_17 : decode cX6_bedsWith 17 = .ok (.invokevirtual 53, 3) := dk_182 0 53 (dk_at dksX6_bedsWith_0 17 rfl rfl)
theorem dX6_bedsWith_20 : decode cX6_bedsWith 20 = .ok (.iload_n 2, 1) := dk_28 (dk_at dksX6_bedsWith_0 20 rfl rfl)
theorem dX6_bedsWith_21 : decode cX6_bedsWith 21 = .ok (.if_icmp .ne 7, 3) := dk_160 0 7 (dk_at dksX6_bedsWith_0 21 rfl rfl)
theorem dX6_bedsWith_24 : decode cX6_bedsWith 24 = .ok (.iconst 1, 1) := dk_4 (dk_at dksX6_bedsWith_1 0 rfl rfl)
theorem dX6_bedsWith_25 : decode cX6_bedsWith 25 = .ok (.goto 4, 3) := dk_167 0 4 (dk_at dksX6_bedsWith_1 1 rfl rfl)
theorem dX6_bedsWith_28 : decode cX6_bedsWith 28 = .ok (.iconst 0, 1) := dk_3 (dk_at dksX6_bedsWith_1 4 rfl rfl)
theorem dX6_bedsWith_29 : decode cX6_bedsWith 29 = .ok (.iadd, 1) := dk_96 (dk_at dksX6_bedsWith_1 5 rfl rfl)
theorem dX6_bedsWith_30 : decode cX6_bedsWith 30 = .ok (.istore_n 3, 1) := dk_62 (dk_at dksX6_bedsWith_1 6 rfl rfl)
theorem dX6_bedsWith_31 : decode cX6_bedsWith 31 = .ok (.iinc 4 1, 3) := dk_132 4 1 (dk_at dksX6_bedsWith_1 7 rfl rfl)
theorem dX6_bedsWith_34 : decode cX6_bedsWith 34 = .ok (.goto (-29), 3) := dk_167 255 227 (dk_at dksX6_bedsWith_1 10 rfl rfl)
theorem dX6_bedsWith_37 : decode cX6_bedsWith 37 = .ok (.iload_n 3, 1) := dk_29 (dk_at dksX6_bedsWith_1 13 rfl rfl)
theorem dX6_bedsWith_38 : decode cX6_bedsWith 38 = .ok (.ireturn, 1) := dk_172 (dk_at dksX6_bedsWith_1 14 rfl rfl)
/-! PageGardenModel.bedsWith(II)I -/
abbrev M_X6_bedsWith (z0 n0 : Nat) (s' : gS) : gM := (RX6, cX6_bedsWith, 5, (some FieldType.int), "bedsWith", [], 2, z0, n0, s'.2.1, s'.2.2)
abbrev W_X6_bedsWith (E : gE) (z0 n0 : Nat) (r : Int32) (s' : gS) (pc : Nat) (L : List (Nat × gV)) (st : List gV) (s : gS) : Prop := gW E (M_X6_bedsWith z0 n0 s') (gQm E (M_X6_bedsWith z0 n0 s') (.inl (some (vI r))) s') pc L st s
noncomputable def f_X6_bedsWith_29 (κ : gK) (F : Nat) (k5 : Option Nat → Int32 → Int32 → Int32 → Int32 → gS → Option (Int32 × gS)) (l0 : Option Nat) (l1 : Int32) (l2 : Int32) (l4 : Int32) (t0 : Int32) (t1 : Int32) (s : gS) : Option (Int32 × gS) :=
  k5 l0 l1 l2 (t0 + t1) (l4 + (1 : Int32)) s
set_option maxHeartbeats 4000000 in
theorem w_X6_bedsWith_29 {E : gE} {F z0 n0 : Nat} {r : Int32} {s' : gS} {k5 : Option Nat → Int32 → Int32 → Int32 → Int32 → gS → Option (Int32 × gS)} (hk5 : ∀ (l0 : Option Nat) (l1 : Int32) (l2 : Int32) (l3 : Int32) (l4 : Int32) (s : gS), k5 l0 l1 l2 l3 l4 s = some (r, s') → W_X6_bedsWith E z0 n0 r s' 5 [(0, vR l0), (1, vI l1), (2, vI l2), (3, vI l3), (4, vI l4)] [] s) : ∀ (l0 : Option Nat) (l1 : Int32) (l2 : Int32) (l4 : Int32) (t0 : Int32) (t1 : Int32) (s : gS), f_X6_bedsWith_29 (gk E) F k5 l0 l1 l2 l4 t0 t1 s = some (r, s') → W_X6_bedsWith E z0 n0 r s' 29 [(0, vR l0), (1, vI l1), (2, vI l2), (4, vI l4)] [vI t1, vI t0] s := by
  intro l0 l1 l2 l4 t0 t1 s hB
  unfold f_X6_bedsWith_29 at hB
  refine gw_iadd dX6_bedsWith_29 ?_
  refine gw_istore_n (L' := [(3, vI (t0 + t1)), (0, vR l0), (1, vI l1), (2, vI l2), (4, vI l4)]) (Nat.le_of_ble_eq_true rfl) rfl dX6_bedsWith_30 ?_
  refine gw_iinc (w := (1 : Int32)) (L' := [(4, vI (l4 + (1 : Int32))), (3, vI (t0 + t1)), (0, vR l0), (1, vI l1), (2, vI l2)]) 4 rfl (by decide) (Nat.le_of_ble_eq_true rfl) rfl dX6_bedsWith_31 ?_
  refine gw_goto (tgt := 5) dX6_bedsWith_34 (by decide) ?_
  exact gw_sub [2, 3, 4, 1, 0] rfl (hk5 _ _ _ _ _ _ hB)
noncomputable def f_X6_bedsWith_5b (κ : gK) (F : Nat) (k5 : Option Nat → Int32 → Int32 → Int32 → Int32 → gS → Option (Int32 × gS)) (l0 : Option Nat) (l1 : Int32) (l2 : Int32) (l3 : Int32) (l4 : Int32) (s : gS) : Option (Int32 × gS) :=
  if (32 : Int32) ≤ l4 then
    some (l3, s)
  else
    gB1 (gck s l0 9) fun _ =>
    gB2 (f_X6_of κ F l0 l4 l1 s) fun v2 s1 =>
    if v2 = l2 then
      f_X6_bedsWith_29 κ F k5 l0 l1 l2 l4 l3 (1 : Int32) s1
    else
      f_X6_bedsWith_29 κ F k5 l0 l1 l2 l4 l3 (0 : Int32) s1
noncomputable def f_X6_bedsWith_5 (κ : gK) (F : Nat)  : Nat → Option Nat → Int32 → Int32 → Int32 → Int32 → gS → Option (Int32 × gS)
  | 0 => fun _ _ _ _ _ _ => none
  | n + 1 => f_X6_bedsWith_5b κ F  (f_X6_bedsWith_5 κ F  n)
set_option maxHeartbeats 4000000 in
theorem w_X6_bedsWith_5b {E : gE} {F z0 n0 : Nat} {r : Int32} {s' : gS} {k5 : Option Nat → Int32 → Int32 → Int32 → Int32 → gS → Option (Int32 × gS)} (hk5 : ∀ (l0 : Option Nat) (l1 : Int32) (l2 : Int32) (l3 : Int32) (l4 : Int32) (s : gS), k5 l0 l1 l2 l3 l4 s = some (r, s') → W_X6_bedsWith E z0 n0 r s' 5 [(0, vR l0), (1, vI l1), (2, vI l2), (3, vI l3), (4, vI l4)] [] s) : ∀ (l0 : Option Nat) (l1 : Int32) (l2 : Int32) (l3 : Int32) (l4 : Int32)  (s : gS), f_X6_bedsWith_5b (gk E) F k5 l0 l1 l2 l3 l4 s = some (r, s') → W_X6_bedsWith E z0 n0 r s' 5 [(0, vR l0), (1, vI l1), (2, vI l2), (3, vI l3), (4, vI l4)] [] s := by
  intro l0 l1 l2 l3 l4 s hB
  unfold f_X6_bedsWith_5b at hB
  refine gw_iload 4 rfl dX6_bedsWith_5 ?_
  refine gw_bipush (v := (32 : Int32)) (by decide) dX6_bedsWith_7 ?_
  refine gw_icmp_ge (tgt := 37) dX6_bedsWith_9 (by decide) (fun hcnd => ?_) (fun hcnd => ?_)
  · rw [if_pos hcnd] at hB
    refine gw_iload_n 3 rfl dX6_bedsWith_37 ?_
    obtain ⟨rfl, rfl⟩ := Prod.mk.inj (Option.some.inj hB)
    exact gw_iret rfl rfl rfl dX6_bedsWith_38
  · rw [if_neg hcnd] at hB
    refine gw_iload_n 3 rfl dX6_bedsWith_12 ?_
    refine gw_aload_n 0 rfl dX6_bedsWith_13 ?_
    refine gw_iload 4 rfl dX6_bedsWith_14 ?_
    refine gw_iload_n 1 rfl dX6_bedsWith_16 ?_
    obtain ⟨u0, hu3, hB⟩ := gB1_some hB
    obtain ⟨v2, s1, hv2, hB⟩ := gB2_some hB
    refine gw_callV (y := yX6_of) (lw_V q2796 q2798 qs58 q143 q2799) hdV_X6_of gcl9 hu3 (As := [vI l4, vI l1]) (rest := [vI l3]) (m_X6_of _ _ _ _ _ _ hv2) (Nat.le_of_ble_eq_true rfl) (Nat.le_of_ble_eq_true rfl) rfl (Nat.le_of_ble_eq_true rfl) dX6_bedsWith_17 (gCont_i ?_)
    refine gw_iload_n 2 rfl dX6_bedsWith_20 ?_
    refine gw_icmp_ne (tgt := 28) dX6_bedsWith_21 (by decide) (fun hcnd => ?_) (fun hcnd => ?_)
    · rw [if_neg hcnd] at hB
      refine gw_iconst (v := (0 : Int32)) (by decide) dX6_bedsWith_28 ?_
      exact gw_sub [0, 1, 2, 4] rfl (w_X6_bedsWith_29 hk5 _ _ _ _ _ _ _ hB)
    · rw [if_pos hcnd] at hB
      refine gw_iconst (v := (1 : Int32)) (by decide) dX6_bedsWith_24 ?_
      refine gw_goto (tgt := 29) dX6_bedsWith_25 (by decide) ?_
      exact gw_sub [0, 1, 2, 4] rfl (w_X6_bedsWith_29 hk5 _ _ _ _ _ _ _ hB)
theorem w_X6_bedsWith_5 {E : gE} {F z0 n0 : Nat} {r : Int32} {s' : gS}   : ∀ (n : Nat) (l0 : Option Nat) (l1 : Int32) (l2 : Int32) (l3 : Int32) (l4 : Int32)  (s : gS), f_X6_bedsWith_5 (gk E) F  n l0 l1 l2 l3 l4 s = some (r, s') → W_X6_bedsWith E z0 n0 r s' 5 [(0, vR l0), (1, vI l1), (2, vI l2), (3, vI l3), (4, vI l4)] [] s := by
  intro n
  induction n with
  | zero => intro l0 l1 l2 l3 l4 s hB; cases hB
  | succ n ih => intro l0 l1 l2 l3 l4 s hB; exact w_X6_bedsWith_5b ih l0 l1 l2 l3 l4 s hB
noncomputable def f_X6_bedsWith_0 (κ : gK) (F : Nat)  (l0 : Option Nat) (l1 : Int32) (l2 : Int32) (s : gS) : Option (Int32 × gS) :=
  f_X6_bedsWith_5 κ F  F l0 l1 l2 (0 : Int32) (0 : Int32) s
set_option maxHeartbeats 4000000 in
theorem w_X6_bedsWith_0 {E : gE} {F z0 n0 : Nat} {r : Int32} {s' : gS}   : ∀ (l0 : Option Nat) (l1 : Int32) (l2 : Int32)  (s : gS), f_X6_bedsWith_0 (gk E) F  l0 l1 l2 s = some (r, s') → W_X6_bedsWith E z0 n0 r s' 0 [(0, vR l0), (1, vI l1), (2, vI l2)] [] s := by
  intro l0 l1 l2 s hB
  unfold f_X6_bedsWith_0 at hB
  refine gw_iconst (v := (0 : Int32)) (by decide) dX6_bedsWith_0 ?_
  refine gw_istore_n (L' := [(3, vI (0 : Int32)), (0, vR l0), (1, vI l1), (2, vI l2)]) (Nat.le_of_ble_eq_true rfl) rfl dX6_bedsWith_1 ?_
  refine gw_iconst (v := (0 : Int32)) (by decide) dX6_bedsWith_2 ?_
  refine gw_istore (L' := [(4, vI (0 : Int32)), (3, vI (0 : Int32)), (0, vR l0), (1, vI l1), (2, vI l2)]) (Nat.le_of_ble_eq_true rfl) rfl dX6_bedsWith_3 ?_
  exact gw_sub [2, 3, 4, 1, 0] rfl (w_X6_bedsWith_5  F _ _ _ _ _ _ hB)
noncomputable def f_X6_bedsWith (κ : gK) (F : Nat) (a0 : Option Nat) (a1 : Int32) (a2 : Int32) (s : gS) : Option (Int32 × gS) := f_X6_bedsWith_0 κ F a0 a1 a2 s
theorem m_X6_bedsWith {E : gE} {F : Nat} (a0 : Option Nat) (a1 : Int32) (a2 : Int32) (s : gS) (r : Int32) (s' : gS) (h : f_X6_bedsWith (gk E) F a0 a1 a2 s = some (r, s')) : gCT E 2 yX6_bedsWith (ws_ yX6_bedsWith cX6_bedsWith 5 (some FieldType.int)) [vR a0, vI a1, vI a2] s (.inl (some (vI r))) s' := by
  refine gCT_of2 (fun h => absurd h (by decide)) (plainFor_of_name (by decide)) (Nat.le_of_ble_eq_true rfl) ?_
  exact gw_sub [0, 1, 2] rfl (w_X6_bedsWith_0 _ _ _ _ h)
def dkwX6_openReaders_1 : List UInt8 := [27, 172]
abbrev dktX6_openReaders_1 : List UInt8 := dkwX6_openReaders_1 ++ []
def dkwX6_openReaders_0 : List UInt8 := [3, 60, 3, 61, 28, 7, 162, 0, 18, 27, 42, 28, 3, 182, 0, 50, 96, 60, 132, 2, 1, 167, 255, 239]
abbrev dktX6_openReaders_0 : List UInt8 := dkwX6_openReaders_0 ++ dktX6_openReaders_1
theorem dksX6_openReaders_0 : cX6_openReaders.data.toList.drop 0 = dktX6_openReaders_0 := by decide +kernel
theorem dksX6_openReaders_1 : cX6_openReaders.data.toList.drop 24 = dktX6_openReaders_1 := dk_seg dksX6_openReaders_0 24 rfl rfl
theorem dX6_openReaders_0 : decode cX6_openReaders 0 = .ok (.iconst 0, 1) := dk_3 (dk_at dksX6_openReaders_0 0 rfl rfl)
theorem dX6_openReaders_1 : decode cX6_openReaders 1 = .ok (.istore_n 1, 1) := dk_60 (dk_at dksX6_openReaders_0 1 rfl rfl)
theorem dX6_openReaders_2 : decode cX6_openReaders 2 = .ok (.iconst 0, 1) := dk_3 (dk_at dksX6_openReaders_0 2 rfl rfl)
theorem dX6_openReaders_3 : decode cX6_openReaders 3 = .ok (.istore_n 2, 1) := dk_61 (dk_at dksX6_openReaders_0 3 rfl rfl)
theorem dX6_openReaders_4 : decode cX6_openReaders 4 = .ok (.iload_n 2, 1) := dk_28 (dk_at dksX6_openReaders_0 4 rfl rfl)
theorem dX6_openReaders_5 : decode cX6_openReaders 5 = .ok (.iconst 4, 1) := dk_7 (dk_at dksX6_openReaders_0 5 rfl rfl)
theorem dX6_openReaders_6 : decode cX6_openReaders 6 = .ok (.if_icmp .ge 18, 3) := dk_162 0 18 (dk_at dksX6_openReaders_0 6 rfl rfl)
theorem dX6_openReaders_9 : decode cX6_openReaders 9 = .ok (.iload_n 1, 1) := dk_27 (dk_at dksX6_openReaders_0 9 rfl rfl)
theorem dX6_openReaders_10 : decode cX6_openReaders 10 = .ok (.aload_n 0, 1) := dk_42 (dk_at dksX6_openReaders_0 10 rfl rfl)
theorem dX6_openReaders_11 : decode cX6_openReaders 11 = .ok (.iload_n 2, 1) := dk_28 (dk_at dksX6_openReaders_0 11 rfl rfl)
theorem dX6_openReaders_12 : decode cX6_openReaders 12 = .ok (.iconst 0, 1) := dk_3 (dk_at dksX6_openReaders_0 12 rfl rfl)
theorem dX6_openReaders_13 : decode cX6_openReaders 13 = .ok (.invokevirtual 50, 3) := dk_182 0 50 (dk_at dksX6_openReaders_0 13 rfl rfl)
theorem dX6_openReaders_16 : decode cX6_openReaders 16 = .ok (.iadd, 1) := dk_96 (dk_at dksX6_openReaders_0 16 rfl rfl)
theorem dX6_openReaders_17 : decode cX6_openReaders 17 = .ok (.istore_n 1, 1) := dk_60 (dk_at dksX6_openReaders_0 17 rfl rfl)
theorem dX6_openReaders_18 : decode cX6_openReaders 18 = .ok (.iinc 2 1, 3) := dk_132 2 1 (dk_at dksX6_openReaders_0 18 rfl rfl)
theorem dX6_openReaders_21 : decode cX6_openReaders 21 = .ok (.goto (-17), 3) := dk_167 255 239 (dk_at dksX6_openReaders_0 21 rfl rfl)
theorem dX6_openReaders_24 : decode cX6_openReaders 24 = .ok (.iload_n 1, 1) := dk_27 (dk_at dksX6_openReaders_1 0 rfl rfl)
theorem dX6_openReaders_25 : decode cX6_openReaders 25 = .ok (.ireturn, 1) := dk_172 (dk_at dksX6_openReaders_1 1 rfl rfl)
/-! PageGardenModel.openReaders()I -/
abbrev M_X6_openReaders (z0 n0 : Nat) (s' : gS) : gM := (RX6, cX6_openReaders, 3, (some FieldType.int), "openReaders", [], 2, z0, n0, s'.2.1, s'.2.2)
abbrev W_X6_openReaders (E : gE) (z0 n0 : Nat) (r : Int32) (s' : gS) (pc : Nat) (L : List (Nat × gV)) (st : List gV) (s : gS) : Prop := gW E (M_X6_openReaders z0 n0 s') (gQm E (M_X6_openReaders z0 n0 s') (.inl (some (vI r))) s') pc L st s
noncomputable def f_X6_openReaders_4b (κ : gK) (F : Nat) (k4 : Option Nat → Int32 → Int32 → gS → Option (Int32 × gS)) (l0 : Option Nat) (l1 : Int32) (l2 : Int32) (s : gS) : Option (Int32 × gS) :=
  if (4 : Int32) ≤ l2 then
    some (l1, s)
  else
    gB1 (gck s l0 9) fun _ =>
    gB2 (f_X6_ofReader κ F l0 l2 (0 : Int32) s) fun v2 s1 =>
    k4 l0 (l1 + v2) (l2 + (1 : Int32)) s1
noncomputable def f_X6_openReaders_4 (κ : gK) (F : Nat)  : Nat → Option Nat → Int32 → Int32 → gS → Option (Int32 × gS)
  | 0 => fun _ _ _ _ => none
  | n + 1 => f_X6_openReaders_4b κ F  (f_X6_openReaders_4 κ F  n)
set_option maxHeartbeats 4000000 in
theorem w_X6_openReaders_4b {E : gE} {F z0 n0 : Nat} {r : Int32} {s' : gS} {k4 : Option Nat → Int32 → Int32 → gS → Option (Int32 × gS)} (hk4 : ∀ (l0 : Option Nat) (l1 : Int32) (l2 : Int32) (s : gS), k4 l0 l1 l2 s = some (r, s') → W_X6_openReaders E z0 n0 r s' 4 [(0, vR l0), (1, vI l1), (2, vI l2)] [] s) : ∀ (l0 : Option Nat) (l1 : Int32) (l2 : Int32)  (s : gS), f_X6_openReaders_4b (gk E) F k4 l0 l1 l2 s = some (r, s') → W_X6_openReaders E z0 n0 r s' 4 [(0, vR l0), (1, vI l1), (2, vI l2)] [] s := by
  intro l0 l1 l2 s hB
  unfold f_X6_openReaders_4b at hB
  refine gw_iload_n 2 rfl dX6_openReaders_4 ?_
  refine gw_iconst (v := (4 : Int32)) (by decide) dX6_openReaders_5 ?_
  refine gw_icmp_ge (tgt := 24) dX6_openReaders_6 (by decide) (fun hcnd => ?_) (fun hcnd => ?_)
  · rw [if_pos hcnd] at hB
    refine gw_iload_n 1 rfl dX6_openReaders_24 ?_
    obtain ⟨rfl, rfl⟩ := Prod.mk.inj (Option.some.inj hB)
    exact gw_iret rfl rfl rfl dX6_openReaders_25
  · rw [if_neg hcnd] at hB
    refine gw_iload_n 1 rfl dX6_openReaders_9 ?_
    refine gw_aload_n 0 rfl dX6_openReaders_10 ?_
    refine gw_iload_n 2 rfl dX6_openReaders_11 ?_
    refine gw_iconst (v := (0 : Int32)) (by decide) dX6_openReaders_12 ?_
    obtain ⟨u0, hu3, hB⟩ := gB1_some hB
    obtain ⟨v2, s1, hv2, hB⟩ := gB2_some hB
    refine gw_callV (y := yX6_ofReader) (lw_V q2824 q2826 qs65 q143 q2827) hdV_X6_ofReader gcl9 hu3 (As := [vI l2, vI (0 : Int32)]) (rest := [vI l1]) (m_X6_ofReader _ _ _ _ _ _ hv2) (Nat.le_of_ble_eq_true rfl) (Nat.le_of_ble_eq_true rfl) rfl (Nat.le_of_ble_eq_true rfl) dX6_openReaders_13 (gCont_i ?_)
    refine gw_iadd dX6_openReaders_16 ?_
    refine gw_istore_n (L' := [(1, vI (l1 + v2)), (0, vR l0), (2, vI l2)]) (Nat.le_of_ble_eq_true rfl) rfl dX6_openReaders_17 ?_
    refine gw_iinc (w := (1 : Int32)) (L' := [(2, vI (l2 + (1 : Int32))), (1, vI (l1 + v2)), (0, vR l0)]) 2 rfl (by decide) (Nat.le_of_ble_eq_true rfl) rfl dX6_openReaders_18 ?_
    refine gw_goto (tgt := 4) dX6_openReaders_21 (by decide) ?_
    exact gw_sub [2, 1, 0] rfl (hk4 _ _ _ _ hB)
theorem w_X6_openReaders_4 {E : gE} {F z0 n0 : Nat} {r : Int32} {s' : gS}   : ∀ (n : Nat) (l0 : Option Nat) (l1 : Int32) (l2 : Int32)  (s : gS), f_X6_openReaders_4 (gk E) F  n l0 l1 l2 s = some (r, s') → W_X6_openReaders E z0 n0 r s' 4 [(0, vR l0), (1, vI l1), (2, vI l2)] [] s := by
  intro n
  induction n with
  | zero => intro l0 l1 l2 s hB; cases hB
  | succ n ih => intro l0 l1 l2 s hB; exact w_X6_openReaders_4b ih l0 l1 l2 s hB
noncomputable def f_X6_openReaders_0 (κ : gK) (F : Nat)  (l0 : Option Nat) (s : gS) : Option (Int32 × gS) :=
  f_X6_openReaders_4 κ F  F l0 (0 : Int32) (0 : Int32) s
set_option maxHeartbeats 4000000 in
theorem w_X6_openReaders_0 {E : gE} {F z0 n0 : Nat} {r : Int32} {s' : gS}   : ∀ (l0 : Option Nat)  (s : gS), f_X6_openReaders_0 (gk E) F  l0 s = some (r, s') → W_X6_openReaders E z0 n0 r s' 0 [(0, vR l0)] [] s := by
  intro l0 s hB
  unfold f_X6_openReaders_0 at hB
  refine gw_iconst (v := (0 : Int32)) (by decide) dX6_openReaders_0 ?_
  refine gw_istore_n (L' := [(1, vI (0 : Int32)), (0, vR l0)]) (Nat.le_of_ble_eq_true rfl) rfl dX6_openReaders_1 ?_
  refine gw_iconst (v := (0 : Int32)) (by decide) dX6_openReaders_2 ?_
  refine gw_istore_n (L' := [(2, vI (0 : Int32)), (1, vI (0 : Int32)), (0, vR l0)]) (Nat.le_of_ble_eq_true rfl) rfl dX6_openReaders_3 ?_
  exact gw_sub [2, 1, 0] rfl (w_X6_openReaders_4  F _ _ _ _ hB)
noncomputable def f_X6_openReaders (κ : gK) (F : Nat) (a0 : Option Nat) (s : gS) : Option (Int32 × gS) := f_X6_openReaders_0 κ F a0 s
theorem m_X6_openReaders {E : gE} {F : Nat} (a0 : Option Nat) (s : gS) (r : Int32) (s' : gS) (h : f_X6_openReaders (gk E) F a0 s = some (r, s')) : gCT E 2 yX6_openReaders (ws_ yX6_openReaders cX6_openReaders 3 (some FieldType.int)) [vR a0] s (.inl (some (vI r))) s' := by
  refine gCT_of2 (fun h => absurd h (by decide)) (plainFor_of_name (by decide)) (Nat.le_of_ble_eq_true rfl) ?_
  exact gw_sub [0] rfl (w_X6_openReaders_0 _ _ h)
def dkwX6_sumOfValues_1 : List UInt8 := [60, 132, 2, 1, 167, 255, 232, 27, 172]
abbrev dktX6_sumOfValues_1 : List UInt8 := dkwX6_sumOfValues_1 ++ []
def dkwX6_sumOfValues_0 : List UInt8 := [3, 60, 3, 61, 28, 42, 42, 182, 0, 90, 182, 0, 187, 162, 0, 18, 27, 42, 28, 4, 182, 0, 190, 96]
abbrev dktX6_sumOfValues_0 : List UInt8 := dkwX6_sumOfValues_0 ++ dktX6_sumOfValues_1
theorem dksX6_sumOfValues_0 : cX6_sumOfValues.data.toList.drop 0 = dktX6_sumOfValues_0 := by decide +kernel
theorem dksX6_sumOfValues_1 : cX6_sumOfValues.data.toList.drop 24 = dktX6_sumOfValues_1 := dk_seg dksX6_sumOfValues_0 24 rfl rfl
theorem dX6_sumOfValues_0 : decode cX6_sumOfValues 0 = .ok (.iconst 0, 1) := dk_3 (dk_at dksX6_sumOfValues_0 0 rfl rfl)
theorem dX6_sumOfValues_1 : decode cX6_sumOfValues 1 = .ok (.istore_n 1, 1) := dk_60 (dk_at dksX6_sumOfValues_0 1 rfl rfl)
theorem dX6_sumOfValues_2 : decode cX6_sumOfValues 2 = .ok (.iconst 0, 1) := dk_3 (dk_at dksX6_sumOfValues_0 2 rfl rfl)
theorem dX6_sumOfValues_3 : decode cX6_sumOfValues 3 = .ok (.istore_n 2, 1) := dk_61 (dk_at dksX6_sumOfValues_0 3 rfl rfl)
theorem dX6_sumOfValues_4 : decode cX6_sumOfValues 4 = .ok (.iload_n 2, 1) := dk_28 (dk_at dksX6_sumOfValues_0 4 rfl rfl)
theorem dX6_sumOfValues_5 : decode cX6_sumOfValues 5 = .ok (.aload_n 0, 1) := dk_42 (dk_at dksX6_sumOfValues_0 5 rfl rfl)
theorem dX6_sumOfValues_6 : decode cX6_sumOfValues 6 = .ok (.aload_n 0, 1) := dk_42 (dk_at dksX6_sumOfValues_0 6 rfl rfl)
theorem dX6_sumOfValues_7 : decode cX6_sumOfValues 7 = .ok (.invokevirtual 90, 3) := dk_182 0 90 (dk_at dksX6_sumOfValues_0 7 rfl rfl)
theorem dX6_sumOfValues_10 : decode cX6_sumOfValues 10 = .ok (.invokevirtual 187, 3) := dk_182 0 187 (dk_at dksX6_sumOfValues_0 10 rfl rfl)
theorem dX6_sumOfValues_13 : decode cX6_sumOfValues 13 = .ok (.if_icmp .ge 18, 3) := dk_162 0 18 (dk_at dksX6_sumOfValues_0 13 rfl rfl)
theorem dX6_sumOfValues_16 : decode cX6_sumOfValues 16 = .ok (.iload_n 1, 1) := dk_27 (dk_at dksX6_sumOfValues_0 16 rfl rfl)
theorem dX6_sumOfValues_17 : decode cX6_sumOfValues 17 = .ok (.aload_n 0, 1) := dk_42 (dk_at dksX6_sumOfValues_0 17 rfl rfl)
theorem dX6_sumOfValues_18 : decode cX6_sumOfValues 18 = .ok (.iload_n 2, 1) := dk_28 (dk_at dksX6_sumOfValues_0 18 rfl rfl)
theorem dX6_sumOfValues_19 : decode cX6_sumOfValues 19 = .ok (.iconst 1, 1) := dk_4 (dk_at dksX6_sumOfValues_0 19 rfl rfl)
theorem dX6_sumOfValues_20 : decode cX6_sumOfValues 20 = .ok (.invokevirtual 190, 3) := dk_182 0 190 (dk_at dksX6_sumOfValues_0 20 rfl rfl)
theorem dX6_sumOfValues_23 : decode cX6_sumOfValues 23 = .ok (.iadd, 1) := dk_96 (dk_at dksX6_sumOfValues_0 23 rfl rfl)
theorem dX6_sumOfValues_24 : decode cX6_sumOfValues 24 = .ok (.istore_n 1, 1) := dk_60 (dk_at dksX6_sumOfValues_1 0 rfl rfl)
theorem dX6_sumOfValues_25 : decode cX6_sumOfValues 25 = .ok (.iinc 2 1, 3) := dk_132 2 1 (dk_at dksX6_sumOfValues_1 1 rfl rfl)
theorem dX6_sumOfValues_28 : decode cX6_sumOfValues 28 = .ok (.goto (-24), 3) := dk_167 255 232 (dk_at dksX6_sumOfValues_1 4 rfl rfl)
theorem dX6_sumOfValues_31 : decode cX6_sumOfValues 31 = .ok (.iload_n 1, 1) := dk_27 (dk_at dksX6_sumOfValues_1 7 rfl rfl)
theorem dX6_sumOfValues_32 : decode cX6_sumOfValues 32 = .ok (.ireturn, 1) := dk_172 (dk_at dksX6_sumOfValues_1 8 rfl rfl)
/-! PageGardenModel.sumOfValues()I -/
abbrev M_X6_sumOfValues (z0 n0 : Nat) (s' : gS) : gM := (RX6, cX6_sumOfValues, 3, (some FieldType.int), "sumOfValues", [], 4, z0, n0, s'.2.1, s'.2.2)
abbrev W_X6_sumOfValues (E : gE) (z0 n0 : Nat) (r : Int32) (s' : gS) (pc : Nat) (L : List (Nat × gV)) (st : List gV) (s : gS) : Prop := gW E (M_X6_sumOfValues z0 n0 s') (gQm E (M_X6_sumOfValues z0 n0 s') (.inl (some (vI r))) s') pc L st s
noncomputable def f_X6_sumOfValues_4b (κ : gK) (F : Nat) (k4 : Option Nat → Int32 → Int32 → gS → Option (Int32 × gS)) (l0 : Option Nat) (l1 : Int32) (l2 : Int32) (s : gS) : Option (Int32 × gS) :=
  gB1 (gck s l0 9) fun _ =>
  gB2 (f_X6_now κ F l0  s) fun v2 s1 =>
  gB1 (gck s1 l0 9) fun _ =>
  gB2 (f_X6_entriesBy κ F l0 v2 s1) fun v5 s4 =>
  if v5 ≤ l2 then
    some (l1, s4)
  else
    gB1 (gck s4 l0 9) fun _ =>
    gB2 (f_X6_tellEntry κ F l0 l2 (1 : Int32) s4) fun v8 s7 =>
    k4 l0 (l1 + v8) (l2 + (1 : Int32)) s7
noncomputable def f_X6_sumOfValues_4 (κ : gK) (F : Nat)  : Nat → Option Nat → Int32 → Int32 → gS → Option (Int32 × gS)
  | 0 => fun _ _ _ _ => none
  | n + 1 => f_X6_sumOfValues_4b κ F  (f_X6_sumOfValues_4 κ F  n)
set_option maxHeartbeats 4000000 in
theorem w_X6_sumOfValues_4b {E : gE} {F z0 n0 : Nat} {r : Int32} {s' : gS} {k4 : Option Nat → Int32 → Int32 → gS → Option (Int32 × gS)} (hk4 : ∀ (l0 : Option Nat) (l1 : Int32) (l2 : Int32) (s : gS), k4 l0 l1 l2 s = some (r, s') → W_X6_sumOfValues E z0 n0 r s' 4 [(0, vR l0), (1, vI l1), (2, vI l2)] [] s) : ∀ (l0 : Option Nat) (l1 : Int32) (l2 : Int32)  (s : gS), f_X6_sumOfValues_4b (gk E) F k4 l0 l1 l2 s = some (r, s') → W_X6_sumOfValues E z0 n0 r s' 4 [(0, vR l0), (1, vI l1), (2, vI l2)] [] s := by
  intro l0 l1 l2 s hB
  unfold f_X6_sumOfValues_4b at hB
  refine gw_iload_n 2 rfl dX6_sumOfValues_4 ?_
  refine gw_aload_n 0 rfl dX6_sumOfValues_5 ?_
  refine gw_aload_n 0 rfl dX6_sumOfValues_6 ?_
  obtain ⟨u0, hu3, hB⟩ := gB1_some hB
  obtain ⟨v2, s1, hv2, hB⟩ := gB2_some hB
  refine gw_callV (y := yX6_now) (lw_V q2788 q2790 qs56 q143 q2791) hdV_X6_now gcl9 hu3 (As := []) (rest := [vR l0, vI l2]) (m_X6_now _ _ _ _ hv2) (Nat.le_of_ble_eq_true rfl) (Nat.le_of_ble_eq_true rfl) rfl (Nat.le_of_ble_eq_true rfl) dX6_sumOfValues_7 (gCont_i ?_)
  obtain ⟨u0, hu6, hB⟩ := gB1_some hB
  obtain ⟨v5, s4, hv5, hB⟩ := gB2_some hB
  refine gw_callV (y := yX6_entriesBy) (lw_V q2962 q2964 qs89 q143 q2965) hdV_X6_entriesBy gcl9 hu6 (As := [vI v2]) (rest := [vI l2]) (m_X6_entriesBy _ _ _ _ _ hv5) (Nat.le_of_ble_eq_true rfl) (Nat.le_of_ble_eq_true rfl) rfl (Nat.le_of_ble_eq_true rfl) dX6_sumOfValues_10 (gCont_i ?_)
  refine gw_icmp_ge (tgt := 31) dX6_sumOfValues_13 (by decide) (fun hcnd => ?_) (fun hcnd => ?_)
  · rw [if_pos hcnd] at hB
    refine gw_iload_n 1 rfl dX6_sumOfValues_31 ?_
    obtain ⟨rfl, rfl⟩ := Prod.mk.inj (Option.some.inj hB)
    exact gw_iret rfl rfl rfl dX6_sumOfValues_32
  · rw [if_neg hcnd] at hB
    refine gw_iload_n 1 rfl dX6_sumOfValues_16 ?_
    refine gw_aload_n 0 rfl dX6_sumOfValues_17 ?_
    refine gw_iload_n 2 rfl dX6_sumOfValues_18 ?_
    refine gw_iconst (v := (1 : Int32)) (by decide) dX6_sumOfValues_19 ?_
    obtain ⟨u0, hu9, hB⟩ := gB1_some hB
    obtain ⟨v8, s7, hv8, hB⟩ := gB2_some hB
    refine gw_callV (y := yX6_tellEntry) (lw_V q2966 q2968 qs90 q143 q2969) hdV_X6_tellEntry gcl9 hu9 (As := [vI l2, vI (1 : Int32)]) (rest := [vI l1]) (m_X6_tellEntry _ _ _ _ _ _ hv8) (Nat.le_of_ble_eq_true rfl) (Nat.le_of_ble_eq_true rfl) rfl (Nat.le_of_ble_eq_true rfl) dX6_sumOfValues_20 (gCont_i ?_)
    refine gw_iadd dX6_sumOfValues_23 ?_
    refine gw_istore_n (L' := [(1, vI (l1 + v8)), (0, vR l0), (2, vI l2)]) (Nat.le_of_ble_eq_true rfl) rfl dX6_sumOfValues_24 ?_
    refine gw_iinc (w := (1 : Int32)) (L' := [(2, vI (l2 + (1 : Int32))), (1, vI (l1 + v8)), (0, vR l0)]) 2 rfl (by decide) (Nat.le_of_ble_eq_true rfl) rfl dX6_sumOfValues_25 ?_
    refine gw_goto (tgt := 4) dX6_sumOfValues_28 (by decide) ?_
    exact gw_sub [2, 1, 0] rfl (hk4 _ _ _ _ hB)
theorem w_X6_sumOfValues_4 {E : gE} {F z0 n0 : Nat} {r : Int32} {s' : gS}   : ∀ (n : Nat) (l0 : Option Nat) (l1 : Int32) (l2 : Int32)  (s : gS), f_X6_sumOfValues_4 (gk E) F  n l0 l1 l2 s = some (r, s') → W_X6_sumOfValues E z0 n0 r s' 4 [(0, vR l0), (1, vI l1), (2, vI l2)] [] s := by
  intro n
  induction n with
  | zero => intro l0 l1 l2 s hB; cases hB
  | succ n ih => intro l0 l1 l2 s hB; exact w_X6_sumOfValues_4b ih l0 l1 l2 s hB
noncomputable def f_X6_sumOfValues_0 (κ : gK) (F : Nat)  (l0 : Option Nat) (s : gS) : Option (Int32 × gS) :=
  f_X6_sumOfValues_4 κ F  F l0 (0 : Int32) (0 : Int32) s
set_option maxHeartbeats 4000000 in
theorem w_X6_sumOfValues_0 {E : gE} {F z0 n0 : Nat} {r : Int32} {s' : gS}   : ∀ (l0 : Option Nat)  (s : gS), f_X6_sumOfValues_0 (gk E) F  l0 s = some (r, s') → W_X6_sumOfValues E z0 n0 r s' 0 [(0, vR l0)] [] s := by
  intro l0 s hB
  unfold f_X6_sumOfValues_0 at hB
  refine gw_iconst (v := (0 : Int32)) (by decide) dX6_sumOfValues_0 ?_
  refine gw_istore_n (L' := [(1, vI (0 : Int32)), (0, vR l0)]) (Nat.le_of_ble_eq_true rfl) rfl dX6_sumOfValues_1 ?_
  refine gw_iconst (v := (0 : Int32)) (by decide) dX6_sumOfValues_2 ?_
  refine gw_istore_n (L' := [(2, vI (0 : Int32)), (1, vI (0 : Int32)), (0, vR l0)]) (Nat.le_of_ble_eq_true rfl) rfl dX6_sumOfValues_3 ?_
  exact gw_sub [2, 1, 0] rfl (w_X6_sumOfValues_4  F _ _ _ _ hB)
noncomputable def f_X6_sumOfValues (κ : gK) (F : Nat) (a0 : Option Nat) (s : gS) : Option (Int32 × gS) := f_X6_sumOfValues_0 κ F a0 s
theorem m_X6_sumOfValues {E : gE} {F : Nat} (a0 : Option Nat) (s : gS) (r : Int32) (s' : gS) (h : f_X6_sumOfValues (gk E) F a0 s = some (r, s')) : gCT E 4 yX6_sumOfValues (ws_ yX6_sumOfValues cX6_sumOfValues 3 (some FieldType.int)) [vR a0] s (.inl (some (vI r))) s' := by
  refine gCT_of2 (fun h => absurd h (by decide)) (plainFor_of_name (by decide)) (Nat.le_of_ble_eq_true rfl) ?_
  exact gw_sub [0] rfl (w_X6_sumOfValues_0 _ _ h)
def dkwX6_tell_5 : List UInt8 := [17, 1, 212, 46, 172, 42, 180, 0, 7, 17, 1, 213, 46, 172, 42, 182, 0, 208, 172, 42, 180, 0, 211, 172]
abbrev dktX6_tell_5 : List UInt8 := dkwX6_tell_5 ++ []
def dkwX6_tell_4 : List UInt8 := [17, 1, 210, 46, 172, 42, 7, 4, 182, 0, 202, 172, 42, 8, 4, 182, 0, 202, 172, 42, 180, 0, 7]
abbrev dktX6_tell_4 : List UInt8 := dkwX6_tell_4 ++ dktX6_tell_5
def dkwX6_tell_3 : List UInt8 := [182, 0, 187, 172, 42, 42, 182, 0, 90, 5, 182, 0, 53, 172, 42, 182, 0, 205, 172, 42, 180, 0, 7]
abbrev dktX6_tell_3 : List UInt8 := dkwX6_tell_3 ++ dktX6_tell_4
def dkwX6_tell_2 : List UInt8 := [42, 3, 27, 182, 0, 202, 172, 42, 182, 0, 172, 172, 42, 2, 182, 0, 56, 172, 42, 42, 182, 0, 90]
abbrev dktX6_tell_2 : List UInt8 := dkwX6_tell_2 ++ dktX6_tell_3
def dkwX6_tell_1 : List UInt8 := [170, 0, 0, 0, 0, 0, 159, 0, 0, 0, 0, 0, 0, 0, 13, 0, 0, 0, 71, 0, 0, 0, 71, 0, 0, 0, 71, 0, 0, 0, 78, 0, 0, 0, 83, 0, 0, 0, 89, 0, 0, 0, 98, 0, 0, 0, 108, 0, 0, 0, 113, 0, 0, 0, 122, 0, 0, 0, 129, 0, 0, 0, 136, 0, 0, 0, 145, 0, 0, 0, 154]
abbrev dktX6_tell_1 : List UInt8 := dkwX6_tell_1 ++ dktX6_tell_2
def dkwX6_tell_0 : List UInt8 := [27]
abbrev dktX6_tell_0 : List UInt8 := dkwX6_tell_0 ++ dktX6_tell_1
theorem dksX6_tell_0 : cX6_tell.data.toList.drop 0 = dktX6_tell_0 := by decide +kernel
theorem dksX6_tell_1 : cX6_tell.data.toList.drop 1 = dktX6_tell_1 := dk_seg dksX6_tell_0 1 rfl rfl
theorem dksX6_tell_2 : cX6_tell.data.toList.drop 72 = dktX6_tell_2 := dk_seg dksX6_tell_1 71 rfl rfl
theorem dksX6_tell_3 : cX6_tell.data.toList.drop 95 = dktX6_tell_3 := dk_seg dksX6_tell_2 23 rfl rfl
theorem dksX6_tell_4 : cX6_tell.data.toList.drop 118 = dktX6_tell_4 := dk_seg dksX6_tell_3 23 rfl rfl
theorem dksX6_tell_5 : cX6_tell.data.toList.drop 141 = dktX6_tell_5 := dk_seg dksX6_tell_4 23 rfl rfl
theorem dX6_tell_0 : decode cX6_tell 0 = .ok (.iload_n 1, 1) := dk_27 (dk_at dksX6_tell_0 0 rfl rfl)
theorem dX6_tell_1 : decode cX6_tell 1 = .ok (.tableswitch 159 0 13 #[71, 71, 71, 78, 83, 89, 98, 108, 113, 122, 129, 136, 145, 154], 71) := by decide +kernel
theorem dX6_tell_72 : decode cX6_tell 72 = .ok (.aload_n 0, 1) := dk_42 (dk_at dksX6_tell_2 0 rfl rfl)
theorem dX6_tell_73 : decode cX6_tell 73 = .ok (.iconst 0, 1) := dk_3 (dk_at dksX6_tell_2 1 rfl rfl)
theorem dX6_tell_74 : decode cX6_tell 74 = .ok (.iload_n 1, 1) := dk_27 (dk_at dksX6_tell_2 2 rfl rfl)
theorem dX6_tell_75 : decode cX6_tell 75 = .ok (.invokevirtual 202, 3) := dk_182 0 202 (dk_at dksX6_tell_2 3 rfl rfl)
theorem dX6_tell_78 : decode cX6_tell 78 = .ok (.ireturn, 1) := dk_172 (dk_at dksX6_tell_2 6 rfl rfl)
theorem dX6_tell_79 : decode cX6_tell 79 = .ok (.aload_n 0, 1) := dk_42 (dk_at dksX6_tell_2 7 rfl rfl)
theorem dX6_tell_80 : decode cX6_tell 80 = .ok (.invokevirtual 172, 3) := dk_182 0 172 (dk_at dksX6_tell_2 8 rfl rfl)
theorem dX6_tell_83 : decode cX6_tell 83 = .ok (.ireturn, 1) := dk_172 (dk_at dksX6_tell_2 11 rfl rfl)
theorem dX6_tell_84 : decode cX6_tell 84 = .ok (.aload_n 0, 1) := dk_42 (dk_at dksX6_tell_2 12 rfl rfl)
theorem dX6_tell_85 : decode cX6_tell 85 = .ok (.iconst (-1), 1) := dk_2 (dk_at dksX6_tell_2 13 rfl rfl)
theorem dX6_tell_86 : decode cX6_tell 86 = .ok (.invokevirtual 56, 3) := dk_182 0 56 (dk_at dksX6_tell_2 14 rfl rfl)
theorem dX6_tell_89 : decode cX6_tell 89 = .ok (.ireturn, 1) := dk_172 (dk_at dksX6_tell_2 17 rfl rfl)
theorem dX6_tell_90 : decode cX6_tell 90 = .ok (.aload_n 0, 1) := dk_42 (dk_at dksX6_tell_2 18 rfl rfl)
theorem dX6_tell_91 : decode cX6_tell 91 = .ok (.aload_n 0, 1) := dk_42 (dk_at dksX6_tell_2 19 rfl rfl)
theorem dX6_tell_92 : decode cX6_tell 92 = .ok (.invokevirtual 90, 3) := dk_182 0 90 (dk_at dksX6_tell_2 20 rfl rfl)
theorem dX6_tell_95 : decode cX6_tell 95 = .ok (.invokevirtual 187, 3) := dk_182 0 187 (dk_at dksX6_tell_3 0 rfl rfl)
theorem dX6_tell_98 : decode cX6_tell 98 = .ok (.ireturn, 1) := dk_172 (dk_at dksX6_tell_3 3 rfl rfl)
theorem dX6_tell_99 : decode cX6_tell 99 = .ok (.aload_n 0, 1) := dk_42 (dk_at dksX6_tell_3 4 rfl rfl)
theorem dX6_tell_100 : decode cX6_tell 100 = .ok (.aload_n 0, 1) := dk_42 (dk_at dksX6_tell_3 5 rfl rfl)
theorem dX6_tell_101 : decode cX6_tell 101 = .ok (.invokevirtual 90, 3) := dk_182 0 90 (dk_at dksX6_tell_3 6 rfl rfl)
theorem dX6_tell_104 : decode cX6_tell 104 = .ok (.iconst 2, 1) := dk_5 (dk_at dksX6_tell_3 9 rfl rfl)
theorem dX6_tell_105 : decode cX6_tell 105 = .ok (.invokevirtual 53, 3) := dk_182 0 53 (dk_at dksX6_tell_3 10 rfl rfl)
theorem dX6_tell_108 : decode cX6_tell 108 = .ok (.ireturn, 1) := dk_172 (dk_at dksX6_tell_3 13 rfl rfl)
theorem dX6_tell_109 : decode cX6_tell 109 = .ok (.aload_n 0, 1) := dk_42 (dk_at dksX6_tell_3 14 rfl rfl)
theorem dX6_tell_110 : decode cX6_tell 110 = .ok (.invokevirtual 205, 3) := dk_182 0 205 (dk_at dksX6_tell_3 15 rfl rfl)
theorem dX6_tell_113 : decode cX6_tell 113 = .ok (.ireturn, 1) := dk_172 (dk_at dksX6_tell_3 18 rfl rfl)
theorem dX6_tell_114 : decode cX6_tell 114 = .ok (.aload_n 0, 1) := dk_42 (dk_at dksX6_tell_3 19 rfl rfl)
theorem dX6_tell_115 : decode cX6_tell 115 = .ok (.getfield 7, 3) := dk_180 0 7 (dk_at dksX6_tell_3 20 rfl rfl)
theorem dX6_tell_118 : decode cX6_tell 118 = .ok (.sipush 466, 3) := dk_17 1 210 (dk_at dksX6_tell_4 0 rfl rfl)
theorem dX6_tell_121 : decode cX6_tell 121 = .ok (.iaload, 1) := dk_46 (dk_at dksX6_tell_4 3 rfl rfl)
theorem dX6_tell_122 : decode cX6_tell 122 = .ok (.ireturn, 1) := dk_172 (dk_at dksX6_tell_4 4 rfl rfl)
theorem dX6_tell_123 : decode cX6_tell 123 = .ok (.aload_n 0, 1) := dk_42 (dk_at dksX6_tell_4 5 rfl rfl)
theorem dX6_tell_124 : decode cX6_tell 124 = .ok (.iconst 4, 1) := dk_7 (dk_at dksX6_tell_4 6 rfl rfl)
theorem dX6_tell_125 : decode cX6_tell 125 = .ok (.iconst 1, 1) := dk_4 (dk_at dksX6_tell_4 7 rfl rfl)
theorem dX6_tell_126 : decode cX6_tell 126 = .ok (.invokevirtual 202, 3) := dk_182 0 202 (dk_at dksX6_tell_4 8 rfl rfl)
theorem dX6_tell_129 : decode cX6_tell 129 = .ok (.ireturn, 1) := dk_172 (dk_at dksX6_tell_4 11 rfl rfl)
theorem dX6_tell_130 : decode cX6_tell 130 = .ok (.aload_n 0, 1) := dk_42 (dk_at dksX6_tell_4 12 rfl rfl)
theorem dX6_tell_131 : decode cX6_tell 131 = .ok (.iconst 5, 1) := dk_8 (dk_at dksX6_tell_4 13 rfl rfl)
theorem dX6_tell_132 : decode cX6_tell 132 = .ok (.iconst 1, 1) := dk_4 (dk_at dksX6_tell_4 14 rfl rfl)
theorem dX6_tell_133 : decode cX6_tell 133 = .ok (.invokevirtual 202, 3) := dk_182 0 202 (dk_at dksX6_tell_4 15 rfl rfl)
theorem dX6_tell_136 : decode cX6_tell 136 = .ok (.ireturn, 1) := dk_172 (dk_at dksX6_tell_4 18 rfl rfl)
theorem dX6_tell_137 : decode cX6_tell 137 = .ok (.aload_n 0, 1) := dk_42 (dk_at dksX6_tell_4 19 rfl rfl)
theorem dX6_tell_138 : decode cX6_tell 138 = .ok (.getfield 7, 3) := dk_180 0 7 (dk_at dksX6_tell_4 20 rfl rfl)
theorem dX6_tell_141 : decode cX6_tell 141 = .ok (.sipush 468, 3) := dk_17 1 212 (dk_at dksX6_tell_5 0 rfl rfl)
theorem dX6_tell_144 : decode cX6_tell 144 = .ok (.iaload, 1) := dk_46 (dk_at dksX6_tell_5 3 rfl rfl)
theorem dX6_tell_145 : decode cX6_tell 145 = .ok (.ireturn, 1) := dk_172 (dk_at dksX6_tell_5 4 rfl rfl)
theorem dX6_tell_146 : decode cX6_tell 146 = .ok (.aload_n 0, 1) := dk_42 (dk_at dksX6_tell_5 5 rfl rfl)
theorem dX6_tell_147 : decode cX6_tell 147 = .ok (.getfield 7, 3) := dk_180 0 7 (dk_at dksX6_tell_5 6 rfl rfl)
theorem dX6_tell_150 : decode cX6_tell 150 = .ok (.sipush 469, 3) := dk_17 1 213 (dk_at dksX6_tell_5 9 rfl rfl)
theorem dX6_tell_153 : decode cX6_tell 153 = .ok (.iaload, 1) := dk_46 (dk_at dksX6_tell_5 12 rfl rfl)
theorem dX6_tell_154 : decode cX6_tell 154 = .ok (.ireturn, 1) := dk_172 (dk_at dksX6_tell_5 13 rfl rfl)
theorem dX6_tell_155 : decode cX6_tell 155 = .ok (.aload_n 0, 1) := dk_42 (dk_at dksX6_tell_5 14 rfl rfl)
theorem dX6_tell_156 : decode cX6_tell 156 = .ok (.invokevirtual 208, 3) := dk_182 0 208 (dk_at dksX6_tell_5 15 rfl rfl)
theorem dX6_tell_159 : decode cX6_tell 159 = .ok (.ireturn, 1) := dk_172 (dk_at dksX6_tell_5 18 rfl rfl)
theorem dX6_tell_160 : decode cX6_tell 160 = .ok (.aload_n 0, 1) := dk_42 (dk_at dksX6_tell_5 19 rfl rfl)
theorem dX6_tell_161 : decode cX6_tell 161 = .ok (.getfield 211, 3) := dk_180 0 211 (dk_at dksX6_tell_5 20 rfl rfl)
theorem dX6_tell_164 : decode cX6_tell 164 = .ok (.ireturn, 1) := dk_172 (dk_at dksX6_tell_5 23 rfl rfl)
/-! PageGardenModel.tell(I)I -/
abbrev M_X6_tell (z0 n0 : Nat) (s' : gS) : gM := (RX6, cX6_tell, 2, (some FieldType.int), "tell", [], 5, z0, n0, s'.2.1, s'.2.2)
abbrev W_X6_tell (E : gE) (z0 n0 : Nat) (r : Int32) (s' : gS) (pc : Nat) (L : List (Nat × gV)) (st : List gV) (s : gS) : Prop := gW E (M_X6_tell z0 n0 s') (gQm E (M_X6_tell z0 n0 s') (.inl (some (vI r))) s') pc L st s
noncomputable def f_X6_tell_72 (κ : gK) (F : Nat)  (l0 : Option Nat) (l1 : Int32) (s : gS) : Option (Int32 × gS) :=
  gB1 (gck s l0 9) fun _ =>
  gB2 (f_X6_bedsWith κ F l0 (0 : Int32) l1 s) fun v2 s1 =>
  some (v2, s1)
set_option maxHeartbeats 4000000 in
theorem w_X6_tell_72 {E : gE} {F z0 n0 : Nat} {r : Int32} {s' : gS}   : ∀ (l0 : Option Nat) (l1 : Int32)  (s : gS), f_X6_tell_72 (gk E) F  l0 l1 s = some (r, s') → W_X6_tell E z0 n0 r s' 72 [(0, vR l0), (1, vI l1)] [] s := by
  intro l0 l1 s hB
  unfold f_X6_tell_72 at hB
  refine gw_aload_n 0 rfl dX6_tell_72 ?_
  refine gw_iconst (v := (0 : Int32)) (by decide) dX6_tell_73 ?_
  refine gw_iload_n 1 rfl dX6_tell_74 ?_
  obtain ⟨u0, hu3, hB⟩ := gB1_some hB
  obtain ⟨v2, s1, hv2, hB⟩ := gB2_some hB
  refine gw_callV (y := yX6_bedsWith) (lw_V q3002 q3004 qs95 q143 q3005) hdV_X6_bedsWith gcl9 hu3 (As := [vI (0 : Int32), vI l1]) (rest := []) (m_X6_bedsWith _ _ _ _ _ _ hv2) (Nat.le_of_ble_eq_true rfl) (Nat.le_of_ble_eq_true rfl) rfl (Nat.le_of_ble_eq_true rfl) dX6_tell_75 (gCont_i ?_)
  obtain ⟨rfl, rfl⟩ := Prod.mk.inj (Option.some.inj hB)
  exact gw_iret rfl rfl rfl dX6_tell_78
noncomputable def f_X6_tell_0 (κ : gK) (F : Nat)  (l0 : Option Nat) (l1 : Int32) (s : gS) : Option (Int32 × gS) :=
  if l1 = (0 : Int32) then
    f_X6_tell_72 κ F  l0 l1 s
  else
  if l1 = (1 : Int32) then
    f_X6_tell_72 κ F  l0 l1 s
  else
  if l1 = (2 : Int32) then
    f_X6_tell_72 κ F  l0 l1 s
  else
  if l1 = (3 : Int32) then
    gB1 (gck s l0 9) fun _ =>
    gB2 (f_X6_freedToDig κ F l0  s) fun v2 s1 =>
    some (v2, s1)
  else
  if l1 = (4 : Int32) then
    gB1 (gck s l0 9) fun _ =>
    gB2 (f_X6_needed κ F l0 (-1 : Int32) s) fun v5 s4 =>
    some (v5, s4)
  else
  if l1 = (5 : Int32) then
    gB1 (gck s l0 9) fun _ =>
    gB2 (f_X6_now κ F l0  s) fun v8 s7 =>
    gB1 (gck s7 l0 9) fun _ =>
    gB2 (f_X6_entriesBy κ F l0 v8 s7) fun v11 s10 =>
    some (v11, s10)
  else
  if l1 = (6 : Int32) then
    gB1 (gck s l0 9) fun _ =>
    gB2 (f_X6_now κ F l0  s) fun v14 s13 =>
    gB1 (gck s13 l0 9) fun _ =>
    gB2 (f_X6_of κ F l0 v14 (2 : Int32) s13) fun v17 s16 =>
    some (v17, s16)
  else
  if l1 = (7 : Int32) then
    gB1 (gck s l0 9) fun _ =>
    gB2 (f_X6_openReaders κ F l0  s) fun v20 s19 =>
    some (v20, s19)
  else
  if l1 = (8 : Int32) then
    gB1 (gfR s l0 9 0) fun v22 =>
    gB1 (gaI s v22 0 (466 : Int32)) fun v23 =>
    some (v23, s)
  else
  if l1 = (9 : Int32) then
    gB1 (gck s l0 9) fun _ =>
    gB2 (f_X6_bedsWith κ F l0 (4 : Int32) (1 : Int32) s) fun v25 s24 =>
    some (v25, s24)
  else
  if l1 = (10 : Int32) then
    gB1 (gck s l0 9) fun _ =>
    gB2 (f_X6_bedsWith κ F l0 (5 : Int32) (1 : Int32) s) fun v28 s27 =>
    some (v28, s27)
  else
  if l1 = (11 : Int32) then
    gB1 (gfR s l0 9 0) fun v30 =>
    gB1 (gaI s v30 0 (468 : Int32)) fun v31 =>
    some (v31, s)
  else
  if l1 = (12 : Int32) then
    gB1 (gfR s l0 9 0) fun v32 =>
    gB1 (gaI s v32 0 (469 : Int32)) fun v33 =>
    some (v33, s)
  else
  if l1 = (13 : Int32) then
    gB1 (gck s l0 9) fun _ =>
    gB2 (f_X6_sumOfValues κ F l0  s) fun v35 s34 =>
    some (v35, s34)
  else
  gB1 (gfI s l0 9 5) fun v37 =>
  some (v37, s)
set_option maxHeartbeats 4000000 in
theorem w_X6_tell_0 {E : gE} {F z0 n0 : Nat} {r : Int32} {s' : gS}   : ∀ (l0 : Option Nat) (l1 : Int32)  (s : gS), f_X6_tell_0 (gk E) F  l0 l1 s = some (r, s') → W_X6_tell E z0 n0 r s' 0 [(0, vR l0), (1, vI l1)] [] s := by
  intro l0 l1 s hB
  unfold f_X6_tell_0 at hB
  refine gw_iload_n 1 rfl dX6_tell_0 ?_
  by_cases hs0 : l1 = (0 : Int32)
  · rw [if_pos hs0] at hB
    refine gw_tableIn (off := 71) (tgt := 72) (by rw [hs0]; decide) (by rw [hs0]; decide) (by rw [hs0]; rfl) dX6_tell_1 (by decide) ?_
    exact gw_sub [0, 1] rfl (w_X6_tell_72  _ _ _ hB)
  rw [if_neg hs0] at hB
  by_cases hs1 : l1 = (1 : Int32)
  · rw [if_pos hs1] at hB
    refine gw_tableIn (off := 71) (tgt := 72) (by rw [hs1]; decide) (by rw [hs1]; decide) (by rw [hs1]; rfl) dX6_tell_1 (by decide) ?_
    exact gw_sub [0, 1] rfl (w_X6_tell_72  _ _ _ hB)
  rw [if_neg hs1] at hB
  by_cases hs2 : l1 = (2 : Int32)
  · rw [if_pos hs2] at hB
    refine gw_tableIn (off := 71) (tgt := 72) (by rw [hs2]; decide) (by rw [hs2]; decide) (by rw [hs2]; rfl) dX6_tell_1 (by decide) ?_
    exact gw_sub [0, 1] rfl (w_X6_tell_72  _ _ _ hB)
  rw [if_neg hs2] at hB
  by_cases hs3 : l1 = (3 : Int32)
  · rw [if_pos hs3] at hB
    refine gw_tableIn (off := 78) (tgt := 79) (by rw [hs3]; decide) (by rw [hs3]; decide) (by rw [hs3]; rfl) dX6_tell_1 (by decide) ?_
    refine gw_aload_n 0 rfl dX6_tell_79 ?_
    obtain ⟨u0, hu3, hB⟩ := gB1_some hB
    obtain ⟨v2, s1, hv2, hB⟩ := gB2_some hB
    refine gw_callV (y := yX6_freedToDig) (lw_V q2932 q2934 qs87 q143 q2935) hdV_X6_freedToDig gcl9 hu3 (As := []) (rest := []) (m_X6_freedToDig _ _ _ _ hv2) (Nat.le_of_ble_eq_true rfl) (Nat.le_of_ble_eq_true rfl) rfl (Nat.le_of_ble_eq_true rfl) dX6_tell_80 (gCont_i ?_)
    obtain ⟨rfl, rfl⟩ := Prod.mk.inj (Option.some.inj hB)
    exact gw_iret rfl rfl rfl dX6_tell_83
  rw [if_neg hs3] at hB
  by_cases hs4 : l1 = (4 : Int32)
  · rw [if_pos hs4] at hB
    refine gw_tableIn (off := 83) (tgt := 84) (by rw [hs4]; decide) (by rw [hs4]; decide) (by rw [hs4]; rfl) dX6_tell_1 (by decide) ?_
    refine gw_aload_n 0 rfl dX6_tell_84 ?_
    refine gw_iconst (v := (-1 : Int32)) (by decide) dX6_tell_85 ?_
    obtain ⟨u0, hu6, hB⟩ := gB1_some hB
    obtain ⟨v5, s4, hv5, hB⟩ := gB2_some hB
    refine gw_callV (y := yX6_needed) (lw_V q2820 q2822 qs64 q143 q2823) hdV_X6_needed gcl9 hu6 (As := [vI (-1 : Int32)]) (rest := []) (m_X6_needed _ _ _ _ _ hv5) (Nat.le_of_ble_eq_true rfl) (Nat.le_of_ble_eq_true rfl) rfl (Nat.le_of_ble_eq_true rfl) dX6_tell_86 (gCont_i ?_)
    obtain ⟨rfl, rfl⟩ := Prod.mk.inj (Option.some.inj hB)
    exact gw_iret rfl rfl rfl dX6_tell_89
  rw [if_neg hs4] at hB
  by_cases hs5 : l1 = (5 : Int32)
  · rw [if_pos hs5] at hB
    refine gw_tableIn (off := 89) (tgt := 90) (by rw [hs5]; decide) (by rw [hs5]; decide) (by rw [hs5]; rfl) dX6_tell_1 (by decide) ?_
    refine gw_aload_n 0 rfl dX6_tell_90 ?_
    refine gw_aload_n 0 rfl dX6_tell_91 ?_
    obtain ⟨u0, hu9, hB⟩ := gB1_some hB
    obtain ⟨v8, s7, hv8, hB⟩ := gB2_some hB
    refine gw_callV (y := yX6_now) (lw_V q2788 q2790 qs56 q143 q2791) hdV_X6_now gcl9 hu9 (As := []) (rest := [vR l0]) (m_X6_now _ _ _ _ hv8) (Nat.le_of_ble_eq_true rfl) (Nat.le_of_ble_eq_true rfl) rfl (Nat.le_of_ble_eq_true rfl) dX6_tell_92 (gCont_i ?_)
    obtain ⟨u0, hu12, hB⟩ := gB1_some hB
    obtain ⟨v11, s10, hv11, hB⟩ := gB2_some hB
    refine gw_callV (y := yX6_entriesBy) (lw_V q2962 q2964 qs89 q143 q2965) hdV_X6_entriesBy gcl9 hu12 (As := [vI v8]) (rest := []) (m_X6_entriesBy _ _ _ _ _ hv11) (Nat.le_of_ble_eq_true rfl) (Nat.le_of_ble_eq_true rfl) rfl (Nat.le_of_ble_eq_true rfl) dX6_tell_95 (gCont_i ?_)
    obtain ⟨rfl, rfl⟩ := Prod.mk.inj (Option.some.inj hB)
    exact gw_iret rfl rfl rfl dX6_tell_98
  rw [if_neg hs5] at hB
  by_cases hs6 : l1 = (6 : Int32)
  · rw [if_pos hs6] at hB
    refine gw_tableIn (off := 98) (tgt := 99) (by rw [hs6]; decide) (by rw [hs6]; decide) (by rw [hs6]; rfl) dX6_tell_1 (by decide) ?_
    refine gw_aload_n 0 rfl dX6_tell_99 ?_
    refine gw_aload_n 0 rfl dX6_tell_100 ?_
    obtain ⟨u0, hu15, hB⟩ := gB1_some hB
    obtain ⟨v14, s13, hv14, hB⟩ := gB2_some hB
    refine gw_callV (y := yX6_now) (lw_V q2788 q2790 qs56 q143 q2791) hdV_X6_now gcl9 hu15 (As := []) (rest := [vR l0]) (m_X6_now _ _ _ _ hv14) (Nat.le_of_ble_eq_true rfl) (Nat.le_of_ble_eq_true rfl) rfl (Nat.le_of_ble_eq_true rfl) dX6_tell_101 (gCont_i ?_)
    refine gw_iconst (v := (2 : Int32)) (by decide) dX6_tell_104 ?_
    obtain ⟨u0, hu18, hB⟩ := gB1_some hB
    obtain ⟨v17, s16, hv17, hB⟩ := gB2_some hB
    refine gw_callV (y := yX6_of) (lw_V q2796 q2798 qs58 q143 q2799) hdV_X6_of gcl9 hu18 (As := [vI v14, vI (2 : Int32)]) (rest := []) (m_X6_of _ _ _ _ _ _ hv17) (Nat.le_of_ble_eq_true rfl) (Nat.le_of_ble_eq_true rfl) rfl (Nat.le_of_ble_eq_true rfl) dX6_tell_105 (gCont_i ?_)
    obtain ⟨rfl, rfl⟩ := Prod.mk.inj (Option.some.inj hB)
    exact gw_iret rfl rfl rfl dX6_tell_108
  rw [if_neg hs6] at hB
  by_cases hs7 : l1 = (7 : Int32)
  · rw [if_pos hs7] at hB
    refine gw_tableIn (off := 108) (tgt := 109) (by rw [hs7]; decide) (by rw [hs7]; decide) (by rw [hs7]; rfl) dX6_tell_1 (by decide) ?_
    refine gw_aload_n 0 rfl dX6_tell_109 ?_
    obtain ⟨u0, hu21, hB⟩ := gB1_some hB
    obtain ⟨v20, s19, hv20, hB⟩ := gB2_some hB
    refine gw_callV (y := yX6_openReaders) (lw_V q3006 q3008 qs96 q143 q3009) hdV_X6_openReaders gcl9 hu21 (As := []) (rest := []) (m_X6_openReaders _ _ _ _ hv20) (Nat.le_of_ble_eq_true rfl) (Nat.le_of_ble_eq_true rfl) rfl (Nat.le_of_ble_eq_true rfl) dX6_tell_110 (gCont_i ?_)
    obtain ⟨rfl, rfl⟩ := Prod.mk.inj (Option.some.inj hB)
    exact gw_iret rfl rfl rfl dX6_tell_113
  rw [if_neg hs7] at hB
  by_cases hs8 : l1 = (8 : Int32)
  · rw [if_pos hs8] at hB
    refine gw_tableIn (off := 113) (tgt := 114) (by rw [hs8]; decide) (by rw [hs8]; decide) (by rw [hs8]; rfl) dX6_tell_1 (by decide) ?_
    refine gw_aload_n 0 rfl dX6_tell_114 ?_
    obtain ⟨v22, hv22, hB⟩ := gB1_some hB
    refine gw_getf (C := RX6) (T := TX6) (N := 13) (k := 0) gcl9 (by decide) in_X6 q2694 (gfR_spec hv22) dX6_tell_115 ?_
    refine gw_sipush (v := (466 : Int32)) (by decide) dX6_tell_118 ?_
    obtain ⟨v23, hv23, hB⟩ := gB1_some hB
    refine gw_iaload hv23 dX6_tell_121 ?_
    obtain ⟨rfl, rfl⟩ := Prod.mk.inj (Option.some.inj hB)
    exact gw_iret rfl rfl rfl dX6_tell_122
  rw [if_neg hs8] at hB
  by_cases hs9 : l1 = (9 : Int32)
  · rw [if_pos hs9] at hB
    refine gw_tableIn (off := 122) (tgt := 123) (by rw [hs9]; decide) (by rw [hs9]; decide) (by rw [hs9]; rfl) dX6_tell_1 (by decide) ?_
    refine gw_aload_n 0 rfl dX6_tell_123 ?_
    refine gw_iconst (v := (4 : Int32)) (by decide) dX6_tell_124 ?_
    refine gw_iconst (v := (1 : Int32)) (by decide) dX6_tell_125 ?_
    obtain ⟨u0, hu26, hB⟩ := gB1_some hB
    obtain ⟨v25, s24, hv25, hB⟩ := gB2_some hB
    refine gw_callV (y := yX6_bedsWith) (lw_V q3002 q3004 qs95 q143 q3005) hdV_X6_bedsWith gcl9 hu26 (As := [vI (4 : Int32), vI (1 : Int32)]) (rest := []) (m_X6_bedsWith _ _ _ _ _ _ hv25) (Nat.le_of_ble_eq_true rfl) (Nat.le_of_ble_eq_true rfl) rfl (Nat.le_of_ble_eq_true rfl) dX6_tell_126 (gCont_i ?_)
    obtain ⟨rfl, rfl⟩ := Prod.mk.inj (Option.some.inj hB)
    exact gw_iret rfl rfl rfl dX6_tell_129
  rw [if_neg hs9] at hB
  by_cases hs10 : l1 = (10 : Int32)
  · rw [if_pos hs10] at hB
    refine gw_tableIn (off := 129) (tgt := 130) (by rw [hs10]; decide) (by rw [hs10]; decide) (by rw [hs10]; rfl) dX6_tell_1 (by decide) ?_
    refine gw_aload_n 0 rfl dX6_tell_130 ?_
    refine gw_iconst (v := (5 : Int32)) (by decide) dX6_tell_131 ?_
    refine gw_iconst (v := (1 : Int32)) (by decide) dX6_tell_132 ?_
    obtain ⟨u0, hu29, hB⟩ := gB1_some hB
    obtain ⟨v28, s27, hv28, hB⟩ := gB2_some hB
    refine gw_callV (y := yX6_bedsWith) (lw_V q3002 q3004 qs95 q143 q3005) hdV_X6_bedsWith gcl9 hu29 (As := [vI (5 : Int32), vI (1 : Int32)]) (rest := []) (m_X6_bedsWith _ _ _ _ _ _ hv28) (Nat.le_of_ble_eq_true rfl) (Nat.le_of_ble_eq_true rfl) rfl (Nat.le_of_ble_eq_true rfl) dX6_tell_133 (gCont_i ?_)
    obtain ⟨rfl, rfl⟩ := Prod.mk.inj (Option.some.inj hB)
    exact gw_iret rfl rfl rfl dX6_tell_136
  rw [if_neg hs10] at hB
  by_cases hs11 : l1 = (11 : Int32)
  · rw [if_pos hs11] at hB
    refine gw_tableIn (off := 136) (tgt := 137) (by rw [hs11]; decide) (by rw [hs11]; decide) (by rw [hs11]; rfl) dX6_tell_1 (by decide) ?_
    refine gw_aload_n 0 rfl dX6_tell_137 ?_
    obtain ⟨v30, hv30, hB⟩ := gB1_some hB
    refine gw_getf (C := RX6) (T := TX6) (N := 13) (k := 0) gcl9 (by decide) in_X6 q2694 (gfR_spec hv30) dX6_tell_138 ?_
    refine gw_sipush (v := (468 : Int32)) (by decide) dX6_tell_141 ?_
    obtain ⟨v31, hv31, hB⟩ := gB1_some hB
    refine gw_iaload hv31 dX6_tell_144 ?_
    obtain ⟨rfl, rfl⟩ := Prod.mk.inj (Option.some.inj hB)
    exact gw_iret rfl rfl rfl dX6_tell_145
  rw [if_neg hs11] at hB
  by_cases hs12 : l1 = (12 : Int32)
  · rw [if_pos hs12] at hB
    refine gw_tableIn (off := 145) (tgt := 146) (by rw [hs12]; decide) (by rw [hs12]; decide) (by rw [hs12]; rfl) dX6_tell_1 (by decide) ?_
    refine gw_aload_n 0 rfl dX6_tell_146 ?_
    obtain ⟨v32, hv32, hB⟩ := gB1_some hB
    refine gw_getf (C := RX6) (T := TX6) (N := 13) (k := 0) gcl9 (by decide) in_X6 q2694 (gfR_spec hv32) dX6_tell_147 ?_
    refine gw_sipush (v := (469 : Int32)) (by decide) dX6_tell_150 ?_
    obtain ⟨v33, hv33, hB⟩ := gB1_some hB
    refine gw_iaload hv33 dX6_tell_153 ?_
    obtain ⟨rfl, rfl⟩ := Prod.mk.inj (Option.some.inj hB)
    exact gw_iret rfl rfl rfl dX6_tell_154
  rw [if_neg hs12] at hB
  by_cases hs13 : l1 = (13 : Int32)
  · rw [if_pos hs13] at hB
    refine gw_tableIn (off := 154) (tgt := 155) (by rw [hs13]; decide) (by rw [hs13]; decide) (by rw [hs13]; rfl) dX6_tell_1 (by decide) ?_
    refine gw_aload_n 0 rfl dX6_tell_155 ?_
    obtain ⟨u0, hu36, hB⟩ := gB1_some hB
    obtain ⟨v35, s34, hv35, hB⟩ := gB2_some hB
    refine gw_callV (y := yX6_sumOfValues) (lw_V q3010 q3012 qs97 q143 q3013) hdV_X6_sumOfValues gcl9 hu36 (As := []) (rest := []) (m_X6_sumOfValues _ _ _ _ hv35) (Nat.le_of_ble_eq_true rfl) (Nat.le_of_ble_eq_true rfl) rfl (Nat.le_of_ble_eq_true rfl) dX6_tell_156 (gCont_i ?_)
    obtain ⟨rfl, rfl⟩ := Prod.mk.inj (Option.some.inj hB)
    exact gw_iret rfl rfl rfl dX6_tell_159
  rw [if_neg hs13] at hB
  have ht0 : l1.toInt ≠ 0 := fun e => hs0 (Int32.toInt_inj.mp (e.trans (by decide)))
  have ht1 : l1.toInt ≠ 1 := fun e => hs1 (Int32.toInt_inj.mp (e.trans (by decide)))
  have ht2 : l1.toInt ≠ 2 := fun e => hs2 (Int32.toInt_inj.mp (e.trans (by decide)))
  have ht3 : l1.toInt ≠ 3 := fun e => hs3 (Int32.toInt_inj.mp (e.trans (by decide)))
  have ht4 : l1.toInt ≠ 4 := fun e => hs4 (Int32.toInt_inj.mp (e.trans (by decide)))
  have ht5 : l1.toInt ≠ 5 := fun e => hs5 (Int32.toInt_inj.mp (e.trans (by decide)))
  have ht6 : l1.toInt ≠ 6 := fun e => hs6 (Int32.toInt_inj.mp (e.trans (by decide)))
  have ht7 : l1.toInt ≠ 7 := fun e => hs7 (Int32.toInt_inj.mp (e.trans (by decide)))
  have ht8 : l1.toInt ≠ 8 := fun e => hs8 (Int32.toInt_inj.mp (e.trans (by decide)))
  have ht9 : l1.toInt ≠ 9 := fun e => hs9 (Int32.toInt_inj.mp (e.trans (by decide)))
  have ht10 : l1.toInt ≠ 10 := fun e => hs10 (Int32.toInt_inj.mp (e.trans (by decide)))
  have ht11 : l1.toInt ≠ 11 := fun e => hs11 (Int32.toInt_inj.mp (e.trans (by decide)))
  have ht12 : l1.toInt ≠ 12 := fun e => hs12 (Int32.toInt_inj.mp (e.trans (by decide)))
  have ht13 : l1.toInt ≠ 13 := fun e => hs13 (Int32.toInt_inj.mp (e.trans (by decide)))
  refine gw_tableOut (tgt := 160) (by omega) dX6_tell_1 (by decide) ?_
  refine gw_aload_n 0 rfl dX6_tell_160 ?_
  obtain ⟨v37, hv37, hB⟩ := gB1_some hB
  refine gw_getf (C := RX6) (T := TX6) (N := 13) (k := 5) gcl9 (by decide) in_X6 q2699 (gfI_spec hv37) dX6_tell_161 ?_
  obtain ⟨rfl, rfl⟩ := Prod.mk.inj (Option.some.inj hB)
  exact gw_iret rfl rfl rfl dX6_tell_164
noncomputable def f_X6_tell (κ : gK) (F : Nat) (a0 : Option Nat) (a1 : Int32) (s : gS) : Option (Int32 × gS) := f_X6_tell_0 κ F a0 a1 s
theorem m_X6_tell {E : gE} {F : Nat} (a0 : Option Nat) (a1 : Int32) (s : gS) (r : Int32) (s' : gS) (h : f_X6_tell (gk E) F a0 a1 s = some (r, s')) : gCT E 5 yX6_tell (ws_ yX6_tell cX6_tell 2 (some FieldType.int)) [vR a0, vI a1] s (.inl (some (vI r))) s' := by
  refine gCT_of2 (fun h => absurd h (by decide)) (plainFor_of_name (by decide)) (Nat.le_of_ble_eq_true rfl) ?_
  exact gw_sub [0, 1] rfl (w_X6_tell_0 _ _ _ h)
def dkwX6_whole_1 : List UInt8 := [4, 182, 0, 181, 172]
abbrev dktX6_whole_1 : List UInt8 := dkwX6_whole_1 ++ []
def dkwX6_whole_0 : List UInt8 := [42, 3, 181, 0, 28, 27, 3, 16, 14, 184, 0, 113, 153, 0, 11, 42, 27, 182, 0, 214, 167, 0, 8, 42]
abbrev dktX6_whole_0 : List UInt8 := dkwX6_whole_0 ++ dktX6_whole_1
theorem dksX6_whole_0 : cX6_whole.data.toList.drop 0 = dktX6_whole_0 := by decide +kernel
theorem dksX6_whole_1 : cX6_whole.data.toList.drop 24 = dktX6_whole_1 := dk_seg dksX6_whole_0 24 rfl rfl
theorem dX6_whole_0 : decode cX6_whole 0 = .ok (.aload_n 0, 1) := dk_42 (dk_at dksX6_whole_0 0 rfl rfl)
theorem dX6_whole_1 : decode cX6_whole 1 = .ok (.iconst 0, 1) := dk_3 (dk_at dksX6_whole_0 1 rfl rfl)
theorem dX6_whole_2 : decode cX6_whole 2 = .ok (.putfield 28, 3) := dk_181 0 28 (dk_at dksX6_whole_0 2 rfl rfl)
theorem dX6_whole_5 : decode cX6_whole 5 = .ok (.iload_n 1, 1) := dk_27 (dk_at dksX6_whole_0 5 rfl rfl)
theorem dX6_whole_6 : decode cX6_whole 6 = .ok (.iconst 0, 1) := dk_3 (dk_at dksX6_whole_0 6 rfl rfl)
theorem dX6_whole_7 : decode cX6_whole 7 = .ok (.bipush 14, 2) := dk_16 14 (dk_at dksX6_whole_0 7 rfl rfl)
theorem dX6_whole_9 : decode cX6_whole 9 = .ok (.invokestatic 113, 3) := dk_184 0 113 (dk_at dksX6_whole_0 9 rfl rfl)
theorem dX6_whole_12 : decode cX6_whole 12 = .ok (.ifCond .eq 11, 3) := dk_153 0 11 (dk_at dksX6_whole_0 12 rfl rfl)
theorem dX6_whole_15 : decode cX6_whole 15 = .ok (.aload_n 0, 1) := dk_42 (dk_at dksX6_whole_0 15 rfl rfl)
theorem dX6_whole_16 : decode cX6_whole 16 = .ok (.iload_n 1, 1) := dk_27 (dk_at dksX6_whole_0 16 rfl rfl)
theorem dX6_whole_17 : decode cX6_whole 17 = .ok (.invokevirtual 214, 3) := dk_182 0 214 (dk_at dksX6_whole_0 17 rfl rfl)
theorem dX6_whole_20 : decode cX6_whole 20 = .ok (.goto 8, 3) := dk_167 0 8 (dk_at dksX6_whole_0 20 rfl rfl)
theorem dX6_whole_23 : decode cX6_whole 23 = .ok (.aload_n 0, 1) := dk_42 (dk_at dksX6_whole_0 23 rfl rfl)
theorem dX6_whole_24 : decode cX6_whole 24 = .ok (.iconst 1, 1) := dk_4 (dk_at dksX6_whole_1 0 rfl rfl)
theorem dX6_whole_25 : decode cX6_whole 25 = .ok (.invokevirtual 181, 3) := dk_182 0 181 (dk_at dksX6_whole_1 1 rfl rfl)
theorem dX6_whole_28 : decode cX6_whole 28 = .ok (.ireturn, 1) := dk_172 (dk_at dksX6_whole_1 4 rfl rfl)
/-! PageGardenModel.whole(I)I -/
abbrev M_X6_whole (z0 n0 : Nat) (s' : gS) : gM := (RX6, cX6_whole, 2, (some FieldType.int), "whole", [], 6, z0, n0, s'.2.1, s'.2.2)
abbrev W_X6_whole (E : gE) (z0 n0 : Nat) (r : Int32) (s' : gS) (pc : Nat) (L : List (Nat × gV)) (st : List gV) (s : gS) : Prop := gW E (M_X6_whole z0 n0 s') (gQm E (M_X6_whole z0 n0 s') (.inl (some (vI r))) s') pc L st s
noncomputable def f_X6_whole_28 (κ : gK) (F : Nat)  (t0 : Int32) (s : gS) : Option (Int32 × gS) :=
  some (t0, s)
set_option maxHeartbeats 4000000 in
theorem w_X6_whole_28 {E : gE} {F z0 n0 : Nat} {r : Int32} {s' : gS}   : ∀  (t0 : Int32) (s : gS), f_X6_whole_28 (gk E) F  t0 s = some (r, s') → W_X6_whole E z0 n0 r s' 28 [] [vI t0] s := by
  intro t0 s hB
  unfold f_X6_whole_28 at hB
  obtain ⟨rfl, rfl⟩ := Prod.mk.inj (Option.some.inj hB)
  exact gw_iret rfl rfl rfl dX6_whole_28
noncomputable def f_X6_whole_0 (κ : gK) (F : Nat)  (l0 : Option Nat) (l1 : Int32) (s : gS) : Option (Int32 × gS) :=
  gB1 (gpf κ s l0 9 6 (.int (0 : Int32))) fun s1 =>
  gB2 (f_X6_in κ F l1 (0 : Int32) (14 : Int32) s1) fun v3 s2 =>
  if v3 = 0 then
    gB1 (gck s2 l0 9) fun _ =>
    gB2 (f_X6_fails κ F l0 (1 : Int32) s2) fun v5 s4 =>
    f_X6_whole_28 κ F  v5 s4
  else
    gB1 (gck s2 l0 9) fun _ =>
    gB2 (f_X6_tell κ F l0 l1 s2) fun v8 s7 =>
    f_X6_whole_28 κ F  v8 s7
set_option maxHeartbeats 4000000 in
theorem w_X6_whole_0 {E : gE} {F z0 n0 : Nat} {r : Int32} {s' : gS}   : ∀ (l0 : Option Nat) (l1 : Int32)  (s : gS), f_X6_whole_0 (gk E) F  l0 l1 s = some (r, s') → W_X6_whole E z0 n0 r s' 0 [(0, vR l0), (1, vI l1)] [] s := by
  intro l0 l1 s hB
  unfold f_X6_whole_0 at hB
  refine gw_aload_n 0 rfl dX6_whole_0 ?_
  refine gw_iconst (v := (0 : Int32)) (by decide) dX6_whole_1 ?_
  obtain ⟨s1, hs1, hB⟩ := gB1_some hB
  refine gw_putf (C := RX6) (T := TX6) (N := 13) (k := 6) tyX6 tyX6_ok nmX6 gcl9 (by decide) in_X6 q2700 rfl (tyX6_ok 6 (by decide)) (gNF_i _) hs1 dX6_whole_2 ?_
  refine gw_iload_n 1 rfl dX6_whole_5 ?_
  refine gw_iconst (v := (0 : Int32)) (by decide) dX6_whole_6 ?_
  refine gw_bipush (v := (14 : Int32)) (by decide) dX6_whole_7 ?_
  obtain ⟨v3, s2, hv3, hB⟩ := gB2_some hB
  refine gw_callS (y := yX6_in) (lw_S q2777 q2778 q143 q2779) hdS_X6_in (As := [vI l1, vI (0 : Int32), vI (14 : Int32)]) (rest := []) (m_X6_in _ _ _ _ _ _ hv3) (Nat.le_of_ble_eq_true rfl) (Nat.le_of_ble_eq_true rfl) rfl (Nat.le_of_ble_eq_true rfl) dX6_whole_9 (gCont_i ?_)
  refine gw_if_eq (tgt := 23) dX6_whole_12 (by decide) (fun hcnd => ?_) (fun hcnd => ?_)
  · rw [if_pos hcnd] at hB
    refine gw_aload_n 0 rfl dX6_whole_23 ?_
    refine gw_iconst (v := (1 : Int32)) (by decide) dX6_whole_24 ?_
    obtain ⟨u0, hu6, hB⟩ := gB1_some hB
    obtain ⟨v5, s4, hv5, hB⟩ := gB2_some hB
    refine gw_callV (y := yX6_fails) (lw_V q2943 q2945 qs88 q143 q2946) hdV_X6_fails gcl9 hu6 (As := [vI (1 : Int32)]) (rest := []) (m_X6_fails _ _ _ _ _ hv5) (Nat.le_of_ble_eq_true rfl) (Nat.le_of_ble_eq_true rfl) rfl (Nat.le_of_ble_eq_true rfl) dX6_whole_25 (gCont_i ?_)
    exact gw_sub [] rfl (w_X6_whole_28  _ _ hB)
  · rw [if_neg hcnd] at hB
    refine gw_aload_n 0 rfl dX6_whole_15 ?_
    refine gw_iload_n 1 rfl dX6_whole_16 ?_
    obtain ⟨u0, hu9, hB⟩ := gB1_some hB
    obtain ⟨v8, s7, hv8, hB⟩ := gB2_some hB
    refine gw_callV (y := yX6_tell) (lw_V q2998 q3000 qs94 q143 q3001) hdV_X6_tell gcl9 hu9 (As := [vI l1]) (rest := []) (m_X6_tell _ _ _ _ _ hv8) (Nat.le_of_ble_eq_true rfl) (Nat.le_of_ble_eq_true rfl) rfl (Nat.le_of_ble_eq_true rfl) dX6_whole_17 (gCont_i ?_)
    refine gw_goto (tgt := 28) dX6_whole_20 (by decide) ?_
    exact gw_sub [] rfl (w_X6_whole_28  _ _ hB)
noncomputable def f_X6_whole (κ : gK) (F : Nat) (a0 : Option Nat) (a1 : Int32) (s : gS) : Option (Int32 × gS) := f_X6_whole_0 κ F a0 a1 s
theorem m_X6_whole {E : gE} {F : Nat} (a0 : Option Nat) (a1 : Int32) (s : gS) (r : Int32) (s' : gS) (h : f_X6_whole (gk E) F a0 a1 s = some (r, s')) : gCT E 6 yX6_whole (ws_ yX6_whole cX6_whole 2 (some FieldType.int)) [vR a0, vI a1] s (.inl (some (vI r))) s' := by
  refine gCT_of2 (fun h => absurd h (by decide)) (plainFor_of_name (by decide)) (Nat.le_of_ble_eq_true rfl) ?_
  exact gw_sub [0, 1] rfl (w_X6_whole_0 _ _ _ h)
def dkwX6_tellNext_0 : List UInt8 := [42, 182, 0, 64, 60, 27, 156, 0, 9, 17, 252, 24, 167, 0, 4, 27, 172]
abbrev dktX6_tellNext_0 : List UInt8 := dkwX6_tellNext_0 ++ []
theorem dksX6_tellNext_0 : cX6_tellNext.data.toList.drop 0 = dktX6_tellNext_0 := by decide +kernel
theorem dX6_tellNext_0 : decode cX6_tellNext 0 = .ok (.aload_n 0, 1) := dk_42 (dk_at dksX6_tellNext_0 0 rfl rfl)
theorem dX6_tellNext_1 : decode cX6_tellNext 1 = .ok (.invokevirtual 64, 3) := dk_182 0 64 (dk_at dksX6_tellNext_0 1 rfl rfl)
theorem dX6_tellNext_4 : decode cX6_tellNext 4 = .ok (.istore_n 1, 1) := dk_60 (dk_at dksX6_tellNext_0 4 rfl rfl)
theorem dX6_tellNext_5 : decode cX6_tellNext 5 = .ok (.iload_n 1, 1) := dk_27 (dk_at dksX6_tellNext_0 5 rfl rfl)
theorem dX6_tellNext_6 : decode cX6_tellNext 6 = .ok (.ifCond .ge 9, 3) := dk_156 0 9 (dk_at dksX6_tellNext_0 6 rfl rfl)
theorem dX6_tellNext_9 : decode cX6_tellNext 9 = .ok (.sipush (-1000), 3) := dk_17 252 24 (dk_at dksX6_tellNext_0 9 rfl rfl)
theorem dX6_tellNext_12 : decode cX6_tellNext 12 = .ok (.goto 4, 3) := dk_167 0 4 (dk_at dksX6_tellNext_0 12 rfl rfl)
theorem dX6_tellNext_15 : decode cX6_tellNext 15 = .ok (.iload_n 1, 1) := dk_27 (dk_at dksX6_tellNext_0 15 rfl rfl)
theorem dX6_tellNext_16 : decode cX6_tellNext 16 = .ok (.ireturn, 1) := dk_172 (dk_at dksX6_tellNext_0 16 rfl rfl)
/-! PageGardenModel.tellNext()I -/
abbrev M_X6_tellNext (z0 n0 : Nat) (s' : gS) : gM := (RX6, cX6_tellNext, 2, (some FieldType.int), "tellNext", [], 5, z0, n0, s'.2.1, s'.2.2)
abbrev W_X6_tellNext (E : gE) (z0 n0 : Nat) (r : Int32) (s' : gS) (pc : Nat) (L : List (Nat × gV)) (st : List gV) (s : gS) : Prop := gW E (M_X6_tellNext z0 n0 s') (gQm E (M_X6_tellNext z0 n0 s') (.inl (some (vI r))) s') pc L st s
noncomputable def f_X6_tellNext_16 (κ : gK) (F : Nat)  (t0 : Int32) (s : gS) : Option (Int32 × gS) :=
  some (t0, s)
set_option maxHeartbeats 4000000 in
theorem w_X6_tellNext_16 {E : gE} {F z0 n0 : Nat} {r : Int32} {s' : gS}   : ∀  (t0 : Int32) (s : gS), f_X6_tellNext_16 (gk E) F  t0 s = some (r, s') → W_X6_tellNext E z0 n0 r s' 16 [] [vI t0] s := by
  intro t0 s hB
  unfold f_X6_tellNext_16 at hB
  obtain ⟨rfl, rfl⟩ := Prod.mk.inj (Option.some.inj hB)
  exact gw_iret rfl rfl rfl dX6_tellNext_16
noncomputable def f_X6_tellNext_0 (κ : gK) (F : Nat)  (l0 : Option Nat) (s : gS) : Option (Int32 × gS) :=
  gB1 (gck s l0 9) fun _ =>
  gB2 (f_X6_nextNow κ F l0  s) fun v2 s1 =>
  if 0 ≤ v2 then
    f_X6_tellNext_16 κ F  v2 s1
  else
    f_X6_tellNext_16 κ F  (-1000 : Int32) s1
set_option maxHeartbeats 4000000 in
theorem w_X6_tellNext_0 {E : gE} {F z0 n0 : Nat} {r : Int32} {s' : gS}   : ∀ (l0 : Option Nat)  (s : gS), f_X6_tellNext_0 (gk E) F  l0 s = some (r, s') → W_X6_tellNext E z0 n0 r s' 0 [(0, vR l0)] [] s := by
  intro l0 s hB
  unfold f_X6_tellNext_0 at hB
  refine gw_aload_n 0 rfl dX6_tellNext_0 ?_
  obtain ⟨u0, hu3, hB⟩ := gB1_some hB
  obtain ⟨v2, s1, hv2, hB⟩ := gB2_some hB
  refine gw_callV (y := yX6_nextNow) (lw_V q2836 q2838 qs68 q143 q2839) hdV_X6_nextNow gcl9 hu3 (As := []) (rest := []) (m_X6_nextNow _ _ _ _ hv2) (Nat.le_of_ble_eq_true rfl) (Nat.le_of_ble_eq_true rfl) rfl (Nat.le_of_ble_eq_true rfl) dX6_tellNext_1 (gCont_i ?_)
  refine gw_istore_n (L' := [(1, vI v2), (0, vR l0)]) (Nat.le_of_ble_eq_true rfl) rfl dX6_tellNext_4 ?_
  refine gw_iload_n 0 rfl dX6_tellNext_5 ?_
  refine gw_if_ge (tgt := 15) dX6_tellNext_6 (by decide) (fun hcnd => ?_) (fun hcnd => ?_)
  · rw [if_pos hcnd] at hB
    refine gw_iload_n 0 rfl dX6_tellNext_15 ?_
    exact gw_sub [] rfl (w_X6_tellNext_16  _ _ hB)
  · rw [if_neg hcnd] at hB
    refine gw_sipush (v := (-1000 : Int32)) (by decide) dX6_tellNext_9 ?_
    refine gw_goto (tgt := 16) dX6_tellNext_12 (by decide) ?_
    exact gw_sub [] rfl (w_X6_tellNext_16  _ _ hB)
noncomputable def f_X6_tellNext (κ : gK) (F : Nat) (a0 : Option Nat) (s : gS) : Option (Int32 × gS) := f_X6_tellNext_0 κ F a0 s
theorem m_X6_tellNext {E : gE} {F : Nat} (a0 : Option Nat) (s : gS) (r : Int32) (s' : gS) (h : f_X6_tellNext (gk E) F a0 s = some (r, s')) : gCT E 5 yX6_tellNext (ws_ yX6_tellNext cX6_tellNext 2 (some FieldType.int)) [vR a0] s (.inl (some (vI r))) s' := by
  refine gCT_of2 (fun h => absurd h (by decide)) (plainFor_of_name (by decide)) (Nat.le_of_ble_eq_true rfl) ?_
  exact gw_sub [0] rfl (w_X6_tellNext_0 _ _ h)
def dkwX6_nextBed_0 : List UInt8 := [42, 3, 181, 0, 28, 42, 182, 0, 217, 172]
abbrev dktX6_nextBed_0 : List UInt8 := dkwX6_nextBed_0 ++ []
theorem dksX6_nextBed_0 : cX6_nextBed.data.toList.drop 0 = dktX6_nextBed_0 := by decide +kernel
theorem dX6_nextBed_0 : decode cX6_nextBed 0 = .ok (.aload_n 0, 1) := dk_42 (dk_at dksX6_nextBed_0 0 rfl rfl)
theorem dX6_nextBed_1 : decode cX6_nextBed 1 = .ok (.iconst 0, 1) := dk_3 (dk_at dksX6_nextBed_0 1 rfl rfl)
theorem dX6_nextBed_2 : decode cX6_nextBed 2 = .ok (.putfield 28, 3) := dk_181 0 28 (dk_at dksX6_nextBed_0 2 rfl rfl)
theorem dX6_nextBed_5 : decode cX6_nextBed 5 = .ok (.aload_n 0, 1) := dk_42 (dk_at dksX6_nextBed_0 5 rfl rfl)
theorem dX6_nextBed_6 : decode cX6_nextBed 6 = .ok (.invokevirtual 217, 3) := dk_182 0 217 (dk_at dksX6_nextBed_0 6 rfl rfl)
theorem dX6_nextBed_9 : decode cX6_nextBed 9 = .ok (.ireturn, 1) := dk_172 (dk_at dksX6_nextBed_0 9 rfl rfl)
/-! PageGardenModel.nextBed()I -/
abbrev M_X6_nextBed (z0 n0 : Nat) (s' : gS) : gM := (RX6, cX6_nextBed, 1, (some FieldType.int), "nextBed", [], 6, z0, n0, s'.2.1, s'.2.2)
abbrev W_X6_nextBed (E : gE) (z0 n0 : Nat) (r : Int32) (s' : gS) (pc : Nat) (L : List (Nat × gV)) (st : List gV) (s : gS) : Prop := gW E (M_X6_nextBed z0 n0 s') (gQm E (M_X6_nextBed z0 n0 s') (.inl (some (vI r))) s') pc L st s
noncomputable def f_X6_nextBed_0 (κ : gK) (F : Nat)  (l0 : Option Nat) (s : gS) : Option (Int32 × gS) :=
  gB1 (gpf κ s l0 9 6 (.int (0 : Int32))) fun s1 =>
  gB1 (gck s1 l0 9) fun _ =>
  gB2 (f_X6_tellNext κ F l0  s1) fun v3 s2 =>
  some (v3, s2)
set_option maxHeartbeats 4000000 in
theorem w_X6_nextBed_0 {E : gE} {F z0 n0 : Nat} {r : Int32} {s' : gS}   : ∀ (l0 : Option Nat)  (s : gS), f_X6_nextBed_0 (gk E) F  l0 s = some (r, s') → W_X6_nextBed E z0 n0 r s' 0 [(0, vR l0)] [] s := by
  intro l0 s hB
  unfold f_X6_nextBed_0 at hB
  refine gw_aload_n 0 rfl dX6_nextBed_0 ?_
  refine gw_iconst (v := (0 : Int32)) (by decide) dX6_nextBed_1 ?_
  obtain ⟨s1, hs1, hB⟩ := gB1_some hB
  refine gw_putf (C := RX6) (T := TX6) (N := 13) (k := 6) tyX6 tyX6_ok nmX6 gcl9 (by decide) in_X6 q2700 rfl (tyX6_ok 6 (by decide)) (gNF_i _) hs1 dX6_nextBed_2 ?_
  refine gw_aload_n 0 rfl dX6_nextBed_5 ?_
  obtain ⟨u0, hu4, hB⟩ := gB1_some hB
  obtain ⟨v3, s2, hv3, hB⟩ := gB2_some hB
  refine gw_callV (y := yX6_tellNext) (lw_V q3018 q3020 qs98 q143 q3021) hdV_X6_tellNext gcl9 hu4 (As := []) (rest := []) (m_X6_tellNext _ _ _ _ hv3) (Nat.le_of_ble_eq_true rfl) (Nat.le_of_ble_eq_true rfl) rfl (Nat.le_of_ble_eq_true rfl) dX6_nextBed_6 (gCont_i ?_)
  obtain ⟨rfl, rfl⟩ := Prod.mk.inj (Option.some.inj hB)
  exact gw_iret rfl rfl rfl dX6_nextBed_9
noncomputable def f_X6_nextBed (κ : gK) (F : Nat) (a0 : Option Nat) (s : gS) : Option (Int32 × gS) := f_X6_nextBed_0 κ F a0 s
theorem m_X6_nextBed {E : gE} {F : Nat} (a0 : Option Nat) (s : gS) (r : Int32) (s' : gS) (h : f_X6_nextBed (gk E) F a0 s = some (r, s')) : gCT E 6 yX6_nextBed (ws_ yX6_nextBed cX6_nextBed 1 (some FieldType.int)) [vR a0] s (.inl (some (vI r))) s' := by
  refine gCT_of2 (fun h => absurd h (by decide)) (plainFor_of_name (by decide)) (Nat.le_of_ble_eq_true rfl) ?_
  exact gw_sub [0] rfl (w_X6_nextBed_0 _ _ h)
def dkwX6_bedsFor_1 : List UInt8 := [167, 0, 4, 3, 181, 0, 28, 42, 180, 0, 28, 154, 0, 11, 42, 27, 182, 0, 120, 167, 0, 4, 3, 172]
abbrev dktX6_bedsFor_1 : List UInt8 := dkwX6_bedsFor_1 ++ []
def dkwX6_bedsFor_0 : List UInt8 := [42, 27, 184, 0, 178, 154, 0, 7, 4, 167, 0, 19, 42, 180, 0, 7, 17, 1, 210, 46, 154, 0, 7, 5]
abbrev dktX6_bedsFor_0 : List UInt8 := dkwX6_bedsFor_0 ++ dktX6_bedsFor_1
theorem dksX6_bedsFor_0 : cX6_bedsFor.data.toList.drop 0 = dktX6_bedsFor_0 := by decide +kernel
theorem dksX6_bedsFor_1 : cX6_bedsFor.data.toList.drop 24 = dktX6_bedsFor_1 := dk_seg dksX6_bedsFor_0 24 rfl rfl
theorem dX6_bedsFor_0 : decode cX6_bedsFor 0 = .ok (.aload_n 0, 1) := dk_42 (dk_at dksX6_bedsFor_0 0 rfl rfl)
theorem dX6_bedsFor_1 : decode cX6_bedsFor 1 = .ok (.iload_n 1, 1) := dk_27 (dk_at dksX6_bedsFor_0 1 rfl rfl)
theorem dX6_bedsFor_2 : decode cX6_bedsFor 2 = .ok (.invokestatic 178, 3) := dk_184 0 178 (dk_at dksX6_bedsFor_0 2 rfl rfl)
theorem dX6_bedsFor_5 : decode cX6_bedsFor 5 = .ok (.ifCond .ne 7, 3) := dk_154 0 7 (dk_at dksX6_bedsFor_0 5 rfl rfl)
theorem dX6_bedsFor_8 : decode cX6_bedsFor 8 = .ok (.iconst 1, 1) := dk_4 (dk_at dksX6_bedsFor_0 8 rfl rfl)
theorem dX6_bedsFor_9 : decode cX6_bedsFor 9 = .ok (.goto 19, 3) := dk_167 0 19 (dk_at dksX6_bedsFor_0 9 rfl rfl)
theorem dX6_bedsFor_12 : decode cX6_bedsFor 12 = .ok (.aload_n 0, 1) := dk_42 (dk_at dksX6_bedsFor_0 12 rfl rfl)
theorem dX6_bedsFor_13 : decode cX6_bedsFor 13 = .ok (.getfield 7, 3) := dk_180 0 7 (dk_at dksX6_bedsFor_0 13 rfl rfl)
theorem dX6_bedsFor_16 : decode cX6_bedsFor 16 = .ok (.sipush 466, 3) := dk_17 1 210 (dk_at dksX6_bedsFor_0 16 rfl rfl)
theorem dX6_bedsFor_19 : decode cX6_bedsFor 19 = .ok (.iaload, 1) := dk_46 (dk_at dksX6_bedsFor_0 19 rfl rfl)
theorem dX6_bedsFor_20 : decode cX6_bedsFor 20 = .ok (.ifCond .ne 7, 3) := dk_154 0 7 (dk_at dksX6_bedsFor_0 20 rfl rfl)
theorem dX6_bedsFor_23 : decode cX6_bedsFor 23 = .ok (.iconst 2, 1) := dk_5 (dk_at dksX6_bedsFor_0 23 rfl rfl)
theorem dX6_bedsFor_24 : decode cX6_bedsFor 24 = .ok (.goto 4, 3) := dk_167 0 4 (dk_at dksX6_bedsFor_1 0 rfl rfl)
theorem dX6_bedsFor_27 : decode cX6_bedsFor 27 = .ok (.iconst 0, 1) := dk_3 (dk_at dksX6_bedsFor_1 3 rfl rfl)
theorem dX6_bedsFor_28 : decode cX6_bedsFor 28 = .ok (.putfield 28, 3) := dk_181 0 28 (dk_at dksX6_bedsFor_1 4 rfl rfl)
theorem dX6_bedsFor_31 : decode cX6_bedsFor 31 = .ok (.aload_n 0, 1) := dk_42 (dk_at dksX6_bedsFor_1 7 rfl rfl)
theorem dX6_bedsFor_32 : decode cX6_bedsFor 32 = .ok (.getfield 28, 3) := dk_180 0 28 (dk_at dksX6_bedsFor_1 8 rfl rfl)
theorem dX6_bedsFor_35 : decode cX6_bedsFor 35 = .ok (.ifCond .ne 11, 3) := dk_154 0 11 (dk_at dksX6_bedsFor_1 11 rfl rfl)
theorem dX6_bedsFor_38 : decode cX6_bedsFor 38 = .ok (.aload_n 0, 1) := dk_42 (dk_at dksX6_bedsFor_1 14 rfl rfl)
theorem dX6_bedsFor_39 : decode cX6_bedsFor 39 = .ok (.iload_n 1, 1) := dk_27 (dk_at dksX6_bedsFor_1 15 rfl rfl)
theorem dX6_bedsFor_40 : decode cX6_bedsFor 40 = .ok (.invokevirtual 120, 3) := dk_182 0 120 (dk_at dksX6_bedsFor_1 16 rfl rfl)
theorem dX6_bedsFor_43 : decode cX6_bedsFor 43 = .ok (.goto 4, 3) := dk_167 0 4 (dk_at dksX6_bedsFor_1 19 rfl rfl)
theorem dX6_bedsFor_46 : decode cX6_bedsFor 46 = .ok (.iconst 0, 1) := dk_3 (dk_at dksX6_bedsFor_1 22 rfl rfl)
theorem dX6_bedsFor_47 : decode cX6_bedsFor 47 = .ok (.ireturn, 1) := dk_172 (dk_at dksX6_bedsFor_1 23 rfl rfl)
/-! PageGardenModel.bedsFor(I)I -/
abbrev M_X6_bedsFor (z0 n0 : Nat) (s' : gS) : gM := (RX6, cX6_bedsFor, 2, (some FieldType.int), "bedsFor", [], 5, z0, n0, s'.2.1, s'.2.2)
abbrev W_X6_bedsFor (E : gE) (z0 n0 : Nat) (r : Int32) (s' : gS) (pc : Nat) (L : List (Nat × gV)) (st : List gV) (s : gS) : Prop := gW E (M_X6_bedsFor z0 n0 s') (gQm E (M_X6_bedsFor z0 n0 s') (.inl (some (vI r))) s') pc L st s
noncomputable def f_X6_bedsFor_47 (κ : gK) (F : Nat)  (t0 : Int32) (s : gS) : Option (Int32 × gS) :=
  some (t0, s)
set_option maxHeartbeats 4000000 in
theorem w_X6_bedsFor_47 {E : gE} {F z0 n0 : Nat} {r : Int32} {s' : gS}   : ∀  (t0 : Int32) (s : gS), f_X6_bedsFor_47 (gk E) F  t0 s = some (r, s') → W_X6_bedsFor E z0 n0 r s' 47 [] [vI t0] s := by
  intro t0 s hB
  unfold f_X6_bedsFor_47 at hB
  obtain ⟨rfl, rfl⟩ := Prod.mk.inj (Option.some.inj hB)
  exact gw_iret rfl rfl rfl dX6_bedsFor_47
noncomputable def f_X6_bedsFor_28 (κ : gK) (F : Nat)  (l0 : Option Nat) (l1 : Int32) (t0 : Option Nat) (t1 : Int32) (s : gS) : Option (Int32 × gS) :=
  gB1 (gpf κ s t0 9 6 (.int t1)) fun s1 =>
  gB1 (gfI s1 l0 9 6) fun v2 =>
  if v2 = 0 then
    gB1 (gck s1 l0 9) fun _ =>
    gB2 (f_X6_bedsOf κ F l0 l1 s1) fun v4 s3 =>
    f_X6_bedsFor_47 κ F  v4 s3
  else
    f_X6_bedsFor_47 κ F  (0 : Int32) s1
set_option maxHeartbeats 4000000 in
theorem w_X6_bedsFor_28 {E : gE} {F z0 n0 : Nat} {r : Int32} {s' : gS}   : ∀ (l0 : Option Nat) (l1 : Int32) (t0 : Option Nat) (t1 : Int32) (s : gS), f_X6_bedsFor_28 (gk E) F  l0 l1 t0 t1 s = some (r, s') → W_X6_bedsFor E z0 n0 r s' 28 [(0, vR l0), (1, vI l1)] [vI t1, vR t0] s := by
  intro l0 l1 t0 t1 s hB
  unfold f_X6_bedsFor_28 at hB
  obtain ⟨s1, hs1, hB⟩ := gB1_some hB
  refine gw_putf (C := RX6) (T := TX6) (N := 13) (k := 6) tyX6 tyX6_ok nmX6 gcl9 (by decide) in_X6 q2700 rfl (tyX6_ok 6 (by decide)) (gNF_i _) hs1 dX6_bedsFor_28 ?_
  refine gw_aload_n 0 rfl dX6_bedsFor_31 ?_
  obtain ⟨v2, hv2, hB⟩ := gB1_some hB
  refine gw_getf (C := RX6) (T := TX6) (N := 13) (k := 6) gcl9 (by decide) in_X6 q2700 (gfI_spec hv2) dX6_bedsFor_32 ?_
  refine gw_if_ne (tgt := 46) dX6_bedsFor_35 (by decide) (fun hcnd => ?_) (fun hcnd => ?_)
  · rw [if_neg hcnd] at hB
    refine gw_iconst (v := (0 : Int32)) (by decide) dX6_bedsFor_46 ?_
    exact gw_sub [] rfl (w_X6_bedsFor_47  _ _ hB)
  · rw [if_pos hcnd] at hB
    refine gw_aload_n 0 rfl dX6_bedsFor_38 ?_
    refine gw_iload_n 1 rfl dX6_bedsFor_39 ?_
    obtain ⟨u0, hu5, hB⟩ := gB1_some hB
    obtain ⟨v4, s3, hv4, hB⟩ := gB2_some hB
    refine gw_callV (y := yX6_bedsOf) (lw_V q2780 q2782 qs54 q143 q2783) hdV_X6_bedsOf gcl9 hu5 (As := [vI l1]) (rest := []) (m_X6_bedsOf _ _ _ _ _ hv4) (Nat.le_of_ble_eq_true rfl) (Nat.le_of_ble_eq_true rfl) rfl (Nat.le_of_ble_eq_true rfl) dX6_bedsFor_40 (gCont_i ?_)
    refine gw_goto (tgt := 47) dX6_bedsFor_43 (by decide) ?_
    exact gw_sub [] rfl (w_X6_bedsFor_47  _ _ hB)
noncomputable def f_X6_bedsFor_0 (κ : gK) (F : Nat)  (l0 : Option Nat) (l1 : Int32) (s : gS) : Option (Int32 × gS) :=
  gB2 (f_X6_isKey κ F l1 s) fun v2 s1 =>
  if v2 = 0 then
    f_X6_bedsFor_28 κ F  l0 l1 l0 (1 : Int32) s1
  else
    gB1 (gfR s1 l0 9 0) fun v3 =>
    gB1 (gaI s1 v3 0 (466 : Int32)) fun v4 =>
    if v4 = 0 then
      f_X6_bedsFor_28 κ F  l0 l1 l0 (2 : Int32) s1
    else
      f_X6_bedsFor_28 κ F  l0 l1 l0 (0 : Int32) s1
set_option maxHeartbeats 4000000 in
theorem w_X6_bedsFor_0 {E : gE} {F z0 n0 : Nat} {r : Int32} {s' : gS}   : ∀ (l0 : Option Nat) (l1 : Int32)  (s : gS), f_X6_bedsFor_0 (gk E) F  l0 l1 s = some (r, s') → W_X6_bedsFor E z0 n0 r s' 0 [(0, vR l0), (1, vI l1)] [] s := by
  intro l0 l1 s hB
  unfold f_X6_bedsFor_0 at hB
  refine gw_aload_n 0 rfl dX6_bedsFor_0 ?_
  refine gw_iload_n 1 rfl dX6_bedsFor_1 ?_
  obtain ⟨v2, s1, hv2, hB⟩ := gB2_some hB
  refine gw_callS (y := yX6_isKey) (lw_S q2940 q2941 q143 q2942) hdS_X6_isKey (As := [vI l1]) (rest := [vR l0]) (m_X6_isKey _ _ _ _ hv2) (Nat.le_of_ble_eq_true rfl) (Nat.le_of_ble_eq_true rfl) rfl (Nat.le_of_ble_eq_true rfl) dX6_bedsFor_2 (gCont_i ?_)
  refine gw_if_ne (tgt := 12) dX6_bedsFor_5 (by decide) (fun hcnd => ?_) (fun hcnd => ?_)
  · rw [if_neg hcnd] at hB
    refine gw_aload_n 0 rfl dX6_bedsFor_12 ?_
    obtain ⟨v3, hv3, hB⟩ := gB1_some hB
    refine gw_getf (C := RX6) (T := TX6) (N := 13) (k := 0) gcl9 (by decide) in_X6 q2694 (gfR_spec hv3) dX6_bedsFor_13 ?_
    refine gw_sipush (v := (466 : Int32)) (by decide) dX6_bedsFor_16 ?_
    obtain ⟨v4, hv4, hB⟩ := gB1_some hB
    refine gw_iaload hv4 dX6_bedsFor_19 ?_
    refine gw_if_ne (tgt := 27) dX6_bedsFor_20 (by decide) (fun hcnd => ?_) (fun hcnd => ?_)
    · rw [if_neg hcnd] at hB
      refine gw_iconst (v := (0 : Int32)) (by decide) dX6_bedsFor_27 ?_
      exact gw_sub [0, 1] rfl (w_X6_bedsFor_28  _ _ _ _ _ hB)
    · rw [if_pos hcnd] at hB
      refine gw_iconst (v := (2 : Int32)) (by decide) dX6_bedsFor_23 ?_
      refine gw_goto (tgt := 28) dX6_bedsFor_24 (by decide) ?_
      exact gw_sub [0, 1] rfl (w_X6_bedsFor_28  _ _ _ _ _ hB)
  · rw [if_pos hcnd] at hB
    refine gw_iconst (v := (1 : Int32)) (by decide) dX6_bedsFor_8 ?_
    refine gw_goto (tgt := 28) dX6_bedsFor_9 (by decide) ?_
    exact gw_sub [0, 1] rfl (w_X6_bedsFor_28  _ _ _ _ _ hB)
noncomputable def f_X6_bedsFor (κ : gK) (F : Nat) (a0 : Option Nat) (a1 : Int32) (s : gS) : Option (Int32 × gS) := f_X6_bedsFor_0 κ F a0 a1 s
theorem m_X6_bedsFor {E : gE} {F : Nat} (a0 : Option Nat) (a1 : Int32) (s : gS) (r : Int32) (s' : gS) (h : f_X6_bedsFor (gk E) F a0 a1 s = some (r, s')) : gCT E 5 yX6_bedsFor (ws_ yX6_bedsFor cX6_bedsFor 2 (some FieldType.int)) [vR a0, vI a1] s (.inl (some (vI r))) s' := by
  refine gCT_of2 (fun h => absurd h (by decide)) (plainFor_of_name (by decide)) (Nat.le_of_ble_eq_true rfl) ?_
  exact gw_sub [0, 1] rfl (w_X6_bedsFor_0 _ _ _ h)
def dkwX6_reason_2 : List UInt8 := [17, 252, 24, 160, 0, 7, 4, 167, 0, 16, 28, 42, 182, 0, 123, 164, 0, 7, 5, 167, 0, 4, 3, 172]
abbrev dktX6_reason_2 : List UInt8 := dkwX6_reason_2 ++ []
def dkwX6_reason_1 : List UInt8 := [167, 0, 4, 3, 181, 0, 28, 42, 180, 0, 28, 158, 0, 5, 3, 172, 42, 27, 182, 0, 120, 61, 28]
abbrev dktX6_reason_1 : List UInt8 := dkwX6_reason_1 ++ dktX6_reason_2
def dkwX6_reason_0 : List UInt8 := [42, 27, 184, 0, 178, 154, 0, 7, 4, 167, 0, 19, 42, 180, 0, 7, 17, 1, 210, 46, 154, 0, 7, 5]
abbrev dktX6_reason_0 : List UInt8 := dkwX6_reason_0 ++ dktX6_reason_1
theorem dksX6_reason_0 : cX6_reason.data.toList.drop 0 = dktX6_reason_0 := by decide +kernel
theorem dksX6_reason_1 : cX6_reason.data.toList.drop 24 = dktX6_reason_1 := dk_seg dksX6_reason_0 24 rfl rfl
theorem dksX6_reason_2 : cX6_reason.data.toList.drop 47 = dktX6_reason_2 := dk_seg dksX6_reason_1 23 rfl rfl
theorem dX6_reason_0 : decode cX6_reason 0 = .ok (.aload_n 0, 1) := dk_42 (dk_at dksX6_reason_0 0 rfl rfl)
theorem dX6_reason_1 : decode cX6_reason 1 = .ok (.iload_n 1, 1) := dk_27 (dk_at dksX6_reason_0 1 rfl rfl)
theorem dX6_reason_2 : decode cX6_reason 2 = .ok (.invokestatic 178, 3) := dk_184 0 178 (dk_at dksX6_reason_0 2 rfl rfl)
theorem dX6_reason_5 : decode cX6_reason 5 = .ok (.ifCond .ne 7, 3) := dk_154 0 7 (dk_at dksX6_reason_0 5 rfl rfl)
theorem dX6_reason_8 : decode cX6_reason 8 = .ok (.iconst 1, 1) := dk_4 (dk_at dksX6_reason_0 8 rfl rfl)
theorem dX6_reason_9 : decode cX6_reason 9 = .ok (.goto 19, 3) := dk_167 0 19 (dk_at dksX6_reason_0 9 rfl rfl)
theorem dX6_reason_12 : decode cX6_reason 12 = .ok (.aload_n 0, 1) := dk_42 (dk_at dksX6_reason_0 12 rfl rfl)
theorem dX6_reason_13 : decode cX6_reason 13 = .ok (.getfield 7, 3) := dk_180 0 7 (dk_at dksX6_reason_0 13 rfl rfl)
theorem dX6_reason_16 : decode cX6_reason 16 = .ok (.sipush 466, 3) := dk_17 1 210 (dk_at dksX6_reason_0 16 rfl rfl)
theorem dX6_reason_19 : decode cX6_reason 19 = .ok (.iaload, 1) := dk_46 (dk_at dksX6_reason_0 19 rfl rfl)
theorem dX6_reason_20 : decode cX6_reason 20 = .ok (.ifCond .ne 7, 3) := dk_154 0 7 (dk_at dksX6_reason_0 20 rfl rfl)
theorem dX6_reason_23 : decode cX6_reason 23 = .ok (.iconst 2, 1) := dk_5 (dk_at dksX6_reason_0 23 rfl rfl)
theorem dX6_reason_24 : decode cX6_reason 24 = .ok (.goto 4, 3) := dk_167 0 4 (dk_at dksX6_reason_1 0 rfl rfl)
theorem dX6_reason_27 : decode cX6_reason 27 = .ok (.iconst 0, 1) := dk_3 (dk_at dksX6_reason_1 3 rfl rfl)
theorem dX6_reason_28 : decode cX6_reason 28 = .ok (.putfield 28, 3) := dk_181 0 28 (dk_at dksX6_reason_1 4 rfl rfl)
theorem dX6_reason_31 : decode cX6_reason 31 = .ok (.aload_n 0, 1) := dk_42 (dk_at dksX6_reason_1 7 rfl rfl)
theorem dX6_reason_32 : decode cX6_reason 32 = .ok (.getfield 28, 3) := dk_180 0 28 (dk_at dksX6_reason_1 8 rfl rfl)
theorem dX6_reason_35 : decode cX6_reason 35 = .ok (.ifCond .le 5, 3) := dk_158 0 5 (dk_at dksX6_reason_1 11 rfl rfl)
theorem dX6_reason_38 : decode cX6_reason 38 = .ok (.iconst 0, 1) := dk_3 (dk_at dksX6_reason_1 14 rfl rfl)
theorem dX6_reason_39 : decode cX6_reason 39 = .ok (.ireturn, 1) := dk_172 (dk_at dksX6_reason_1 15 rfl rfl)
theorem dX6_reason_40 : decode cX6_reason 40 = .ok (.aload_n 0, 1) := dk_42 (dk_at dksX6_reason_1 16 rfl rfl)
theorem dX6_reason_41 : decode cX6_reason 41 = .ok (.iload_n 1, 1) := dk_27 (dk_at dksX6_reason_1 17 rfl rfl)
theorem dX6_reason_42 : decode cX6_reason 42 = .ok (.invokevirtual 120, 3) := dk_182 0 120 (dk_at dksX6_reason_1 18 rfl rfl)
theorem dX6_reason_45 : decode cX6_reason 45 = .ok (.istore_n 2, 1) := dk_61 (dk_at dksX6_reason_1 21 rfl rfl)
theorem dX6_reason_46 : decode cX6_reason 46 = .ok (.iload_n 2, 1) := dk_28 (dk_at dksX6_reason_1 22 rfl rfl)
theorem dX6_reason_47 : decode cX6_reason 47 = .ok (.sipush (-1000), 3) := dk_17 252 24 (dk_at dksX6_reason_2 0 rfl rfl)
theorem dX6_reason_50 : decode cX6_reason 50 = .ok (.if_icmp .ne 7, 3) := dk_160 0 7 (dk_at dksX6_reason_2 3 rfl rfl)
theorem dX6_reason_53 : decode cX6_reason 53 = .ok (.iconst 1, 1) := dk_4 (dk_at dksX6_reason_2 6 rfl rfl)
theorem dX6_reason_54 : decode cX6_reason 54 = .ok (.goto 16, 3) := dk_167 0 16 (dk_at dksX6_reason_2 7 rfl rfl)
theorem dX6_reason_57 : decode cX6_reason 57 = .ok (.iload_n 2, 1) := dk_28 (dk_at dksX6_reason_2 10 rfl rfl)
theorem dX6_reason_58 : decode cX6_reason 58 = .ok (.aload_n 0, 1) := dk_42 (dk_at dksX6_reason_2 11 rfl rfl)
theorem dX6_reason_59 : decode cX6_reason 59 = .ok (.invokevirtual 123, 3) := dk_182 0 123 (dk_at dksX6_reason_2 12 rfl rfl)
theorem dX6_reason_62 : decode cX6_reason 62 = .ok (.if_icmp .le 7, 3) := dk_164 0 7 (dk_at dksX6_reason_2 15 rfl rfl)
theorem dX6_reason_65 : decode cX6_reason 65 = .ok (.iconst 2, 1) := dk_5 (dk_at dksX6_reason_2 18 rfl rfl)
theorem dX6_reason_66 : decode cX6_reason 66 = .ok (.goto 4, 3) := dk_167 0 4 (dk_at dksX6_reason_2 19 rfl rfl)
theorem dX6_reason_69 : decode cX6_reason 69 = .ok (.iconst 0, 1) := dk_3 (dk_at dksX6_reason_2 22 rfl rfl)
theorem dX6_reason_70 : decode cX6_reason 70 = .ok (.ireturn, 1) := dk_172 (dk_at dksX6_reason_2 23 rfl rfl)
/-! PageGardenModel.reason(I)I -/
abbrev M_X6_reason (z0 n0 : Nat) (s' : gS) : gM := (RX6, cX6_reason, 3, (some FieldType.int), "reason", [], 5, z0, n0, s'.2.1, s'.2.2)
abbrev W_X6_reason (E : gE) (z0 n0 : Nat) (r : Int32) (s' : gS) (pc : Nat) (L : List (Nat × gV)) (st : List gV) (s : gS) : Prop := gW E (M_X6_reason z0 n0 s') (gQm E (M_X6_reason z0 n0 s') (.inl (some (vI r))) s') pc L st s
noncomputable def f_X6_reason_70 (κ : gK) (F : Nat)  (t0 : Int32) (s : gS) : Option (Int32 × gS) :=
  some (t0, s)
set_option maxHeartbeats 4000000 in
theorem w_X6_reason_70 {E : gE} {F z0 n0 : Nat} {r : Int32} {s' : gS}   : ∀  (t0 : Int32) (s : gS), f_X6_reason_70 (gk E) F  t0 s = some (r, s') → W_X6_reason E z0 n0 r s' 70 [] [vI t0] s := by
  intro t0 s hB
  unfold f_X6_reason_70 at hB
  obtain ⟨rfl, rfl⟩ := Prod.mk.inj (Option.some.inj hB)
  exact gw_iret rfl rfl rfl dX6_reason_70
noncomputable def f_X6_reason_28 (κ : gK) (F : Nat)  (l0 : Option Nat) (l1 : Int32) (t0 : Option Nat) (t1 : Int32) (s : gS) : Option (Int32 × gS) :=
  gB1 (gpf κ s t0 9 6 (.int t1)) fun s1 =>
  gB1 (gfI s1 l0 9 6) fun v2 =>
  if v2 ≤ 0 then
    gB1 (gck s1 l0 9) fun _ =>
    gB2 (f_X6_bedsOf κ F l0 l1 s1) fun v4 s3 =>
    if v4 = (-1000 : Int32) then
      f_X6_reason_70 κ F  (1 : Int32) s3
    else
      gB1 (gck s3 l0 9) fun _ =>
      gB2 (f_X6_manyToDig κ F l0  s3) fun v7 s6 =>
      if v4 ≤ v7 then
        f_X6_reason_70 κ F  (0 : Int32) s6
      else
        f_X6_reason_70 κ F  (2 : Int32) s6
  else
    some ((0 : Int32), s1)
set_option maxHeartbeats 4000000 in
theorem w_X6_reason_28 {E : gE} {F z0 n0 : Nat} {r : Int32} {s' : gS}   : ∀ (l0 : Option Nat) (l1 : Int32) (t0 : Option Nat) (t1 : Int32) (s : gS), f_X6_reason_28 (gk E) F  l0 l1 t0 t1 s = some (r, s') → W_X6_reason E z0 n0 r s' 28 [(0, vR l0), (1, vI l1)] [vI t1, vR t0] s := by
  intro l0 l1 t0 t1 s hB
  unfold f_X6_reason_28 at hB
  obtain ⟨s1, hs1, hB⟩ := gB1_some hB
  refine gw_putf (C := RX6) (T := TX6) (N := 13) (k := 6) tyX6 tyX6_ok nmX6 gcl9 (by decide) in_X6 q2700 rfl (tyX6_ok 6 (by decide)) (gNF_i _) hs1 dX6_reason_28 ?_
  refine gw_aload_n 0 rfl dX6_reason_31 ?_
  obtain ⟨v2, hv2, hB⟩ := gB1_some hB
  refine gw_getf (C := RX6) (T := TX6) (N := 13) (k := 6) gcl9 (by decide) in_X6 q2700 (gfI_spec hv2) dX6_reason_32 ?_
  refine gw_if_le (tgt := 40) dX6_reason_35 (by decide) (fun hcnd => ?_) (fun hcnd => ?_)
  · rw [if_pos hcnd] at hB
    refine gw_aload_n 0 rfl dX6_reason_40 ?_
    refine gw_iload_n 1 rfl dX6_reason_41 ?_
    obtain ⟨u0, hu5, hB⟩ := gB1_some hB
    obtain ⟨v4, s3, hv4, hB⟩ := gB2_some hB
    refine gw_callV (y := yX6_bedsOf) (lw_V q2780 q2782 qs54 q143 q2783) hdV_X6_bedsOf gcl9 hu5 (As := [vI l1]) (rest := []) (m_X6_bedsOf _ _ _ _ _ hv4) (Nat.le_of_ble_eq_true rfl) (Nat.le_of_ble_eq_true rfl) rfl (Nat.le_of_ble_eq_true rfl) dX6_reason_42 (gCont_i ?_)
    refine gw_istore_n (L' := [(2, vI v4), (0, vR l0), (1, vI l1)]) (Nat.le_of_ble_eq_true rfl) rfl dX6_reason_45 ?_
    refine gw_iload_n 0 rfl dX6_reason_46 ?_
    refine gw_sipush (v := (-1000 : Int32)) (by decide) dX6_reason_47 ?_
    refine gw_icmp_ne (tgt := 57) dX6_reason_50 (by decide) (fun hcnd => ?_) (fun hcnd => ?_)
    · rw [if_neg hcnd] at hB
      refine gw_iload_n 0 rfl dX6_reason_57 ?_
      refine gw_aload_n 1 rfl dX6_reason_58 ?_
      obtain ⟨u0, hu8, hB⟩ := gB1_some hB
      obtain ⟨v7, s6, hv7, hB⟩ := gB2_some hB
      refine gw_callV (y := yX6_manyToDig) (lw_V q2812 q2814 qs62 q143 q2815) hdV_X6_manyToDig gcl9 hu8 (As := []) (rest := [vI v4]) (m_X6_manyToDig _ _ _ _ hv7) (Nat.le_of_ble_eq_true rfl) (Nat.le_of_ble_eq_true rfl) rfl (Nat.le_of_ble_eq_true rfl) dX6_reason_59 (gCont_i ?_)
      refine gw_icmp_le (tgt := 69) dX6_reason_62 (by decide) (fun hcnd => ?_) (fun hcnd => ?_)
      · rw [if_pos hcnd] at hB
        refine gw_iconst (v := (0 : Int32)) (by decide) dX6_reason_69 ?_
        exact gw_sub [] rfl (w_X6_reason_70  _ _ hB)
      · rw [if_neg hcnd] at hB
        refine gw_iconst (v := (2 : Int32)) (by decide) dX6_reason_65 ?_
        refine gw_goto (tgt := 70) dX6_reason_66 (by decide) ?_
        exact gw_sub [] rfl (w_X6_reason_70  _ _ hB)
    · rw [if_pos hcnd] at hB
      refine gw_iconst (v := (1 : Int32)) (by decide) dX6_reason_53 ?_
      refine gw_goto (tgt := 70) dX6_reason_54 (by decide) ?_
      exact gw_sub [] rfl (w_X6_reason_70  _ _ hB)
  · rw [if_neg hcnd] at hB
    refine gw_iconst (v := (0 : Int32)) (by decide) dX6_reason_38 ?_
    obtain ⟨rfl, rfl⟩ := Prod.mk.inj (Option.some.inj hB)
    exact gw_iret rfl rfl rfl dX6_reason_39
noncomputable def f_X6_reason_0 (κ : gK) (F : Nat)  (l0 : Option Nat) (l1 : Int32) (s : gS) : Option (Int32 × gS) :=
  gB2 (f_X6_isKey κ F l1 s) fun v2 s1 =>
  if v2 = 0 then
    f_X6_reason_28 κ F  l0 l1 l0 (1 : Int32) s1
  else
    gB1 (gfR s1 l0 9 0) fun v3 =>
    gB1 (gaI s1 v3 0 (466 : Int32)) fun v4 =>
    if v4 = 0 then
      f_X6_reason_28 κ F  l0 l1 l0 (2 : Int32) s1
    else
      f_X6_reason_28 κ F  l0 l1 l0 (0 : Int32) s1
set_option maxHeartbeats 4000000 in
theorem w_X6_reason_0 {E : gE} {F z0 n0 : Nat} {r : Int32} {s' : gS}   : ∀ (l0 : Option Nat) (l1 : Int32)  (s : gS), f_X6_reason_0 (gk E) F  l0 l1 s = some (r, s') → W_X6_reason E z0 n0 r s' 0 [(0, vR l0), (1, vI l1)] [] s := by
  intro l0 l1 s hB
  unfold f_X6_reason_0 at hB
  refine gw_aload_n 0 rfl dX6_reason_0 ?_
  refine gw_iload_n 1 rfl dX6_reason_1 ?_
  obtain ⟨v2, s1, hv2, hB⟩ := gB2_some hB
  refine gw_callS (y := yX6_isKey) (lw_S q2940 q2941 q143 q2942) hdS_X6_isKey (As := [vI l1]) (rest := [vR l0]) (m_X6_isKey _ _ _ _ hv2) (Nat.le_of_ble_eq_true rfl) (Nat.le_of_ble_eq_true rfl) rfl (Nat.le_of_ble_eq_true rfl) dX6_reason_2 (gCont_i ?_)
  refine gw_if_ne (tgt := 12) dX6_reason_5 (by decide) (fun hcnd => ?_) (fun hcnd => ?_)
  · rw [if_neg hcnd] at hB
    refine gw_aload_n 0 rfl dX6_reason_12 ?_
    obtain ⟨v3, hv3, hB⟩ := gB1_some hB
    refine gw_getf (C := RX6) (T := TX6) (N := 13) (k := 0) gcl9 (by decide) in_X6 q2694 (gfR_spec hv3) dX6_reason_13 ?_
    refine gw_sipush (v := (466 : Int32)) (by decide) dX6_reason_16 ?_
    obtain ⟨v4, hv4, hB⟩ := gB1_some hB
    refine gw_iaload hv4 dX6_reason_19 ?_
    refine gw_if_ne (tgt := 27) dX6_reason_20 (by decide) (fun hcnd => ?_) (fun hcnd => ?_)
    · rw [if_neg hcnd] at hB
      refine gw_iconst (v := (0 : Int32)) (by decide) dX6_reason_27 ?_
      exact gw_sub [0, 1] rfl (w_X6_reason_28  _ _ _ _ _ hB)
    · rw [if_pos hcnd] at hB
      refine gw_iconst (v := (2 : Int32)) (by decide) dX6_reason_23 ?_
      refine gw_goto (tgt := 28) dX6_reason_24 (by decide) ?_
      exact gw_sub [0, 1] rfl (w_X6_reason_28  _ _ _ _ _ hB)
  · rw [if_pos hcnd] at hB
    refine gw_iconst (v := (1 : Int32)) (by decide) dX6_reason_8 ?_
    refine gw_goto (tgt := 28) dX6_reason_9 (by decide) ?_
    exact gw_sub [0, 1] rfl (w_X6_reason_28  _ _ _ _ _ hB)
noncomputable def f_X6_reason (κ : gK) (F : Nat) (a0 : Option Nat) (a1 : Int32) (s : gS) : Option (Int32 × gS) := f_X6_reason_0 κ F a0 a1 s
theorem m_X6_reason {E : gE} {F : Nat} (a0 : Option Nat) (a1 : Int32) (s : gS) (r : Int32) (s' : gS) (h : f_X6_reason (gk E) F a0 a1 s = some (r, s')) : gCT E 5 yX6_reason (ws_ yX6_reason cX6_reason 3 (some FieldType.int)) [vR a0, vI a1] s (.inl (some (vI r))) s' := by
  refine gCT_of2 (fun h => absurd h (by decide)) (plainFor_of_name (by decide)) (Nat.le_of_ble_eq_true rfl) ?_
  exact gw_sub [0, 1] rfl (w_X6_reason_0 _ _ _ h)
def dkwX6_neededWithout_1 : List UInt8 := [167, 0, 4, 3, 181, 0, 28, 42, 180, 0, 28, 154, 0, 11, 42, 27, 182, 0, 56, 167, 0, 4, 3, 172]
abbrev dktX6_neededWithout_1 : List UInt8 := dkwX6_neededWithout_1 ++ []
def dkwX6_neededWithout_0 : List UInt8 := [42, 27, 184, 0, 184, 154, 0, 7, 4, 167, 0, 17, 42, 27, 3, 182, 0, 50, 154, 0, 7, 5]
abbrev dktX6_neededWithout_0 : List UInt8 := dkwX6_neededWithout_0 ++ dktX6_neededWithout_1
theorem dksX6_neededWithout_0 : cX6_neededWithout.data.toList.drop 0 = dktX6_neededWithout_0 := by decide +kernel
theorem dksX6_neededWithout_1 : cX6_neededWithout.data.toList.drop 22 = dktX6_neededWithout_1 := dk_seg dksX6_neededWithout_0 22 rfl rfl
theorem dX6_neededWithout_0 : decode cX6_neededWithout 0 = .ok (.aload_n 0, 1) := dk_42 (dk_at dksX6_neededWithout_0 0 rfl rfl)
theorem dX6_neededWithout_1 : decode cX6_neededWithout 1 = .ok (.iload_n 1, 1) := dk_27 (dk_at dksX6_neededWithout_0 1 rfl rfl)
theorem dX6_neededWithout_2 : decode cX6_neededWithout 2 = .ok (.invokestatic 184, 3) := dk_184 0 184 (dk_at dksX6_neededWithout_0 2 rfl rfl)
theorem dX6_neededWithout_5 : decode cX6_neededWithout 5 = .ok (.ifCond .ne 7, 3) := dk_154 0 7 (dk_at dksX6_neededWithout_0 5 rfl rfl)
theorem dX6_neededWithout_8 : decode cX6_neededWithout 8 = .ok (.iconst 1, 1) := dk_4 (dk_at dksX6_neededWithout_0 8 rfl rfl)
theorem dX6_neededWithout_9 : decode cX6_neededWithout 9 = .ok (.goto 17, 3) := dk_167 0 17 (dk_at dksX6_neededWithout_0 9 rfl rfl)
theorem dX6_neededWithout_12 : decode cX6_neededWithout 12 = .ok (.aload_n 0, 1) := dk_42 (dk_at dksX6_neededWithout_0 12 rfl rfl)
theorem dX6_neededWithout_13 : decode cX6_neededWithout 13 = .ok (.iload_n 1, 1) := dk_27 (dk_at dksX6_neededWithout_0 13 rfl rfl)
theorem dX6_neededWithout_14 : decode cX6_neededWithout 14 = .ok (.iconst 0, 1) := dk_3 (dk_at dksX6_neededWithout_0 14 rfl rfl)
theorem dX6_neededWithout_15 : decode cX6_neededWithout 15 = .ok (.invokevirtual 50, 3) := dk_182 0 50 (dk_at dksX6_neededWithout_0 15 rfl rfl)
theorem dX6_neededWithout_18 : decode cX6_neededWithout 18 = .ok (.ifCond .ne 7, 3) := dk_154 0 7 (dk_at dksX6_neededWithout_0 18 rfl rfl)
theorem dX6_neededWithout_21 : decode cX6_neededWithout 21 = .ok (.iconst 2, 1) := dk_5 (dk_at dksX6_neededWithout_0 21 rfl rfl)
theorem dX6_neededWithout_22 : decode cX6_neededWithout 22 = .ok (.goto 4, 3) := dk_167 0 4 (dk_at dksX6_neededWithout_1 0 rfl rfl)
theorem dX6_neededWithout_25 : decode cX6_neededWithout 25 = .ok (.iconst 0, 1) := dk_3 (dk_at dksX6_neededWithout_1 3 rfl rfl)
theorem dX6_neededWithout_26 : decode cX6_neededWithout 26 = .ok (.putfield 28, 3) := dk_181 0 28 (dk_at dksX6_neededWithout_1 4 rfl rfl)
theorem dX6_neededWithout_29 : decode cX6_neededWithout 29 = .ok (.aload_n 0, 1) := dk_42 (dk_at dksX6_neededWithout_1 7 rfl rfl)
theorem dX6_neededWithout_30 : decode cX6_neededWithout 30 = .ok (.getfield 28, 3) := dk_180 0 28 (dk_at dksX6_neededWithout_1 8 rfl rfl)
theorem dX6_neededWithout_33 : decode cX6_neededWithout 33 = .ok (.ifCond .ne 11, 3) := dk_154 0 11 (dk_at dksX6_neededWithout_1 11 rfl rfl)
theorem dX6_neededWithout_36 : decode cX6_neededWithout 36 = .ok (.aload_n 0, 1) := dk_42 (dk_at dksX6_neededWithout_1 14 rfl rfl)
theorem dX6_neededWithout_37 : decode cX6_neededWithout 37 = .ok (.iload_n 1, 1) := dk_27 (dk_at dksX6_neededWithout_1 15 rfl rfl)
theorem dX6_neededWithout_38 : decode cX6_neededWithout 38 = .ok (.invokevirtual 56, 3) := dk_182 0 56 (dk_at dksX6_neededWithout_1 16 rfl rfl)
theorem dX6_neededWithout_41 : decode cX6_neededWithout 41 = .ok (.goto 4, 3) := dk_167 0 4 (dk_at dksX6_neededWithout_1 19 rfl rfl)
theorem dX6_neededWithout_44 : decode cX6_neededWithout 44 = .ok (.iconst 0, 1) := dk_3 (dk_at dksX6_neededWithout_1 22 rfl rfl)
theorem dX6_neededWithout_45 : decode cX6_neededWithout 45 = .ok (.ireturn, 1) := dk_172 (dk_at dksX6_neededWithout_1 23 rfl rfl)
/-! PageGardenModel.neededWithout(I)I -/
abbrev M_X6_neededWithout (z0 n0 : Nat) (s' : gS) : gM := (RX6, cX6_neededWithout, 2, (some FieldType.int), "neededWithout", [], 3, z0, n0, s'.2.1, s'.2.2)
abbrev W_X6_neededWithout (E : gE) (z0 n0 : Nat) (r : Int32) (s' : gS) (pc : Nat) (L : List (Nat × gV)) (st : List gV) (s : gS) : Prop := gW E (M_X6_neededWithout z0 n0 s') (gQm E (M_X6_neededWithout z0 n0 s') (.inl (some (vI r))) s') pc L st s
noncomputable def f_X6_neededWithout_45 (κ : gK) (F : Nat)  (t0 : Int32) (s : gS) : Option (Int32 × gS) :=
  some (t0, s)
set_option maxHeartbeats 4000000 in
theorem w_X6_neededWithout_45 {E : gE} {F z0 n0 : Nat} {r : Int32} {s' : gS}   : ∀  (t0 : Int32) (s : gS), f_X6_neededWithout_45 (gk E) F  t0 s = some (r, s') → W_X6_neededWithout E z0 n0 r s' 45 [] [vI t0] s := by
  intro t0 s hB
  unfold f_X6_neededWithout_45 at hB
  obtain ⟨rfl, rfl⟩ := Prod.mk.inj (Option.some.inj hB)
  exact gw_iret rfl rfl rfl dX6_neededWithout_45
noncomputable def f_X6_neededWithout_26 (κ : gK) (F : Nat)  (l0 : Option Nat) (l1 : Int32) (t0 : Option Nat) (t1 : Int32) (s : gS) : Option (Int32 × gS) :=
  gB1 (gpf κ s t0 9 6 (.int t1)) fun s1 =>
  gB1 (gfI s1 l0 9 6) fun v2 =>
  if v2 = 0 then
    gB1 (gck s1 l0 9) fun _ =>
    gB2 (f_X6_needed κ F l0 l1 s1) fun v4 s3 =>
    f_X6_neededWithout_45 κ F  v4 s3
  else
    f_X6_neededWithout_45 κ F  (0 : Int32) s1
set_option maxHeartbeats 4000000 in
theorem w_X6_neededWithout_26 {E : gE} {F z0 n0 : Nat} {r : Int32} {s' : gS}   : ∀ (l0 : Option Nat) (l1 : Int32) (t0 : Option Nat) (t1 : Int32) (s : gS), f_X6_neededWithout_26 (gk E) F  l0 l1 t0 t1 s = some (r, s') → W_X6_neededWithout E z0 n0 r s' 26 [(0, vR l0), (1, vI l1)] [vI t1, vR t0] s := by
  intro l0 l1 t0 t1 s hB
  unfold f_X6_neededWithout_26 at hB
  obtain ⟨s1, hs1, hB⟩ := gB1_some hB
  refine gw_putf (C := RX6) (T := TX6) (N := 13) (k := 6) tyX6 tyX6_ok nmX6 gcl9 (by decide) in_X6 q2700 rfl (tyX6_ok 6 (by decide)) (gNF_i _) hs1 dX6_neededWithout_26 ?_
  refine gw_aload_n 0 rfl dX6_neededWithout_29 ?_
  obtain ⟨v2, hv2, hB⟩ := gB1_some hB
  refine gw_getf (C := RX6) (T := TX6) (N := 13) (k := 6) gcl9 (by decide) in_X6 q2700 (gfI_spec hv2) dX6_neededWithout_30 ?_
  refine gw_if_ne (tgt := 44) dX6_neededWithout_33 (by decide) (fun hcnd => ?_) (fun hcnd => ?_)
  · rw [if_neg hcnd] at hB
    refine gw_iconst (v := (0 : Int32)) (by decide) dX6_neededWithout_44 ?_
    exact gw_sub [] rfl (w_X6_neededWithout_45  _ _ hB)
  · rw [if_pos hcnd] at hB
    refine gw_aload_n 0 rfl dX6_neededWithout_36 ?_
    refine gw_iload_n 1 rfl dX6_neededWithout_37 ?_
    obtain ⟨u0, hu5, hB⟩ := gB1_some hB
    obtain ⟨v4, s3, hv4, hB⟩ := gB2_some hB
    refine gw_callV (y := yX6_needed) (lw_V q2820 q2822 qs64 q143 q2823) hdV_X6_needed gcl9 hu5 (As := [vI l1]) (rest := []) (m_X6_needed _ _ _ _ _ hv4) (Nat.le_of_ble_eq_true rfl) (Nat.le_of_ble_eq_true rfl) rfl (Nat.le_of_ble_eq_true rfl) dX6_neededWithout_38 (gCont_i ?_)
    refine gw_goto (tgt := 45) dX6_neededWithout_41 (by decide) ?_
    exact gw_sub [] rfl (w_X6_neededWithout_45  _ _ hB)
noncomputable def f_X6_neededWithout_0 (κ : gK) (F : Nat)  (l0 : Option Nat) (l1 : Int32) (s : gS) : Option (Int32 × gS) :=
  gB2 (f_X6_isReader κ F l1 s) fun v2 s1 =>
  if v2 = 0 then
    f_X6_neededWithout_26 κ F  l0 l1 l0 (1 : Int32) s1
  else
    gB1 (gck s1 l0 9) fun _ =>
    gB2 (f_X6_ofReader κ F l0 l1 (0 : Int32) s1) fun v4 s3 =>
    if v4 = 0 then
      f_X6_neededWithout_26 κ F  l0 l1 l0 (2 : Int32) s3
    else
      f_X6_neededWithout_26 κ F  l0 l1 l0 (0 : Int32) s3
set_option maxHeartbeats 4000000 in
theorem w_X6_neededWithout_0 {E : gE} {F z0 n0 : Nat} {r : Int32} {s' : gS}   : ∀ (l0 : Option Nat) (l1 : Int32)  (s : gS), f_X6_neededWithout_0 (gk E) F  l0 l1 s = some (r, s') → W_X6_neededWithout E z0 n0 r s' 0 [(0, vR l0), (1, vI l1)] [] s := by
  intro l0 l1 s hB
  unfold f_X6_neededWithout_0 at hB
  refine gw_aload_n 0 rfl dX6_neededWithout_0 ?_
  refine gw_iload_n 1 rfl dX6_neededWithout_1 ?_
  obtain ⟨v2, s1, hv2, hB⟩ := gB2_some hB
  refine gw_callS (y := yX6_isReader) (lw_S q2955 q2956 q143 q2957) hdS_X6_isReader (As := [vI l1]) (rest := [vR l0]) (m_X6_isReader _ _ _ _ hv2) (Nat.le_of_ble_eq_true rfl) (Nat.le_of_ble_eq_true rfl) rfl (Nat.le_of_ble_eq_true rfl) dX6_neededWithout_2 (gCont_i ?_)
  refine gw_if_ne (tgt := 12) dX6_neededWithout_5 (by decide) (fun hcnd => ?_) (fun hcnd => ?_)
  · rw [if_neg hcnd] at hB
    refine gw_aload_n 0 rfl dX6_neededWithout_12 ?_
    refine gw_iload_n 1 rfl dX6_neededWithout_13 ?_
    refine gw_iconst (v := (0 : Int32)) (by decide) dX6_neededWithout_14 ?_
    obtain ⟨u0, hu5, hB⟩ := gB1_some hB
    obtain ⟨v4, s3, hv4, hB⟩ := gB2_some hB
    refine gw_callV (y := yX6_ofReader) (lw_V q2824 q2826 qs65 q143 q2827) hdV_X6_ofReader gcl9 hu5 (As := [vI l1, vI (0 : Int32)]) (rest := [vR l0]) (m_X6_ofReader _ _ _ _ _ _ hv4) (Nat.le_of_ble_eq_true rfl) (Nat.le_of_ble_eq_true rfl) rfl (Nat.le_of_ble_eq_true rfl) dX6_neededWithout_15 (gCont_i ?_)
    refine gw_if_ne (tgt := 25) dX6_neededWithout_18 (by decide) (fun hcnd => ?_) (fun hcnd => ?_)
    · rw [if_neg hcnd] at hB
      refine gw_iconst (v := (0 : Int32)) (by decide) dX6_neededWithout_25 ?_
      exact gw_sub [0, 1] rfl (w_X6_neededWithout_26  _ _ _ _ _ hB)
    · rw [if_pos hcnd] at hB
      refine gw_iconst (v := (2 : Int32)) (by decide) dX6_neededWithout_21 ?_
      refine gw_goto (tgt := 26) dX6_neededWithout_22 (by decide) ?_
      exact gw_sub [0, 1] rfl (w_X6_neededWithout_26  _ _ _ _ _ hB)
  · rw [if_pos hcnd] at hB
    refine gw_iconst (v := (1 : Int32)) (by decide) dX6_neededWithout_8 ?_
    refine gw_goto (tgt := 26) dX6_neededWithout_9 (by decide) ?_
    exact gw_sub [0, 1] rfl (w_X6_neededWithout_26  _ _ _ _ _ hB)
noncomputable def f_X6_neededWithout (κ : gK) (F : Nat) (a0 : Option Nat) (a1 : Int32) (s : gS) : Option (Int32 × gS) := f_X6_neededWithout_0 κ F a0 a1 s
theorem m_X6_neededWithout {E : gE} {F : Nat} (a0 : Option Nat) (a1 : Int32) (s : gS) (r : Int32) (s' : gS) (h : f_X6_neededWithout (gk E) F a0 a1 s = some (r, s')) : gCT E 3 yX6_neededWithout (ws_ yX6_neededWithout cX6_neededWithout 2 (some FieldType.int)) [vR a0, vI a1] s (.inl (some (vI r))) s' := by
  refine gCT_of2 (fun h => absurd h (by decide)) (plainFor_of_name (by decide)) (Nat.le_of_ble_eq_true rfl) ?_
  exact gw_sub [0, 1] rfl (w_X6_neededWithout_0 _ _ _ h)
def dkwX6_changedSince_3 : List UInt8 := [3, 167, 0, 4, 4, 96, 61, 132, 3, 1, 167, 255, 209, 28, 172]
abbrev dktX6_changedSince_3 : List UInt8 := dkwX6_changedSince_3 ++ []
def dkwX6_changedSince_2 : List UInt8 := [28, 42, 42, 182, 0, 90, 29, 182, 0, 139, 42, 42, 27, 5, 182, 0, 50, 29, 182, 0, 139, 160, 0, 7]
abbrev dktX6_changedSince_2 : List UInt8 := dkwX6_changedSince_2 ++ dktX6_changedSince_3
def dkwX6_changedSince_1 : List UInt8 := [167, 0, 4, 3, 181, 0, 28, 3, 61, 3, 62, 29, 16, 100, 162, 0, 47, 42, 180, 0, 28, 154, 0, 40]
abbrev dktX6_changedSince_1 : List UInt8 := dkwX6_changedSince_1 ++ dktX6_changedSince_2
def dkwX6_changedSince_0 : List UInt8 := [42, 27, 184, 0, 184, 154, 0, 7, 4, 167, 0, 17, 42, 27, 3, 182, 0, 50, 154, 0, 7, 5]
abbrev dktX6_changedSince_0 : List UInt8 := dkwX6_changedSince_0 ++ dktX6_changedSince_1
theorem dksX6_changedSince_0 : cX6_changedSince.data.toList.drop 0 = dktX6_changedSince_0 := by decide +kernel
theorem dksX6_changedSince_1 : cX6_changedSince.data.toList.drop 22 = dktX6_changedSince_1 := dk_seg dksX6_changedSince_0 22 rfl rfl
theorem dksX6_changedSince_2 : cX6_changedSince.data.toList.drop 46 = dktX6_changedSince_2 := dk_seg dksX6_changedSince_1 24 rfl rfl
theorem dksX6_changedSince_3 : cX6_changedSince.data.toList.drop 70 = dktX6_changedSince_3 := dk_seg dksX6_changedSince_2 24 rfl rfl
theorem dX6_changedSince_0 : decode cX6_changedSince 0 = .ok (.aload_n 0, 1) := dk_42 (dk_at dksX6_changedSince_0 0 rfl rfl)
theorem dX6_changedSince_1 : decode cX6_changedSince 1 = .ok (.iload_n 1, 1) := dk_27 (dk_at dksX6_changedSince_0 1 rfl rfl)
theorem dX6_changedSince_2 : decode cX6_changedSince 2 = .ok (.invokestatic 184, 3) := dk_184 0 184 (dk_at dksX6_changedSince_0 2 rfl rfl)
theorem dX6_changedSince_5 : decode cX6_changedSince 5 = .ok (.ifCond .ne 7, 3) := dk_154 0 7 (dk_at dksX6_changedSince_0 5 rfl rfl)
theorem dX6_changedSince_8 : decode cX6_changedSince 8 = .ok (.iconst 1, 1) := dk_4 (dk_at dksX6_changedSince_0 8 rfl rfl)
theorem dX6_changedSince_9 : decode cX6_changedSince 9 = .ok (.goto 17, 3) := dk_167 0 17 (dk_at dksX6_changedSince_0 9 rfl rfl)
theorem dX6_changedSince_12 : decode cX6_changedSince 12 = .ok (.aload_n 0, 1) := dk_42 (dk_at dksX6_changedSince_0 12 rfl rfl)
theorem dX6_changedSince_13 : decode cX6_changedSince 13 = .ok (.iload_n 1, 1) := dk_27 (dk_at dksX6_changedSince_0 13 rfl rfl)
theorem dX6_changedSince_14 : decode cX6_changedSince 14 = .ok (.iconst 0, 1) := dk_3 (dk_at dksX6_changedSince_0 14 rfl rfl)
theorem dX6_changedSince_15 : decode cX6_changedSince 15 = .ok (.invokevirtual 50, 3) := dk_182 0 50 (dk_at dksX6_changedSince_0 15 rfl rfl)
theorem dX6_changedSince_18 : decode cX6_changedSince 18 = .ok (.ifCond .ne 7, 3) := dk_154 0 7 (dk_at dksX6_changedSince_0 18 rfl rfl)
theorem dX6_changedSince_21 : decode cX6_changedSince 21 = .ok (.iconst 2, 1) := dk_5 (dk_at dksX6_changedSince_0 21 rfl rfl)
theorem dX6_changedSince_22 : decode cX6_changedSince 22 = .ok (.goto 4, 3) := dk_167 0 4 (dk_at dksX6_changedSince_1 0 rfl rfl)
theorem dX6_changedSince_25 : decode cX6_changedSince 25 = .ok (.iconst 0, 1) := dk_3 (dk_at dksX6_changedSince_1 3 rfl rfl)
theorem dX6_changedSince_26 : decode cX6_changedSince 26 = .ok (.putfield 28, 3) := dk_181 0 28 (dk_at dksX6_changedSince_1 4 rfl rfl)
theorem dX6_changedSince_29 : decode cX6_changedSince 29 = .ok (.iconst 0, 1) := dk_3 (dk_at dksX6_changedSince_1 7 rfl rfl)
theorem dX6_changedSince_30 : decode cX6_changedSince 30 = .ok (.istore_n 2, 1) := dk_61 (dk_at dksX6_changedSince_1 8 rfl rfl)
theorem dX6_changedSince_31 : decode cX6_changedSince 31 = .ok (.iconst 0, 1) := dk_3 (dk_at dksX6_changedSince_1 9 rfl rfl)
theorem dX6_changedSince_32 : decode cX6_changedSince 32 = .ok (.istore_n 3, 1) := dk_62 (dk_at dksX6_changedSince_1 10 rfl rfl)
theorem dX6_changedSince_33 : decode cX6_changedSince 33 = .ok (.iload_n 3, 1) := dk_29 (dk_at dksX6_changedSince_1 11 rfl rfl)
theorem dX6_changedSince_34 : decode cX6_changedSince 34 = .ok (.bipush 100, 2) := dk_16 100 (dk_at dksX6_changedSince_1 12 rfl rfl)
theorem dX6_changedSince_36 : decode cX6_changedSince 36 = .ok (.if_icmp .ge 47, 3) := dk_162 0 47 (dk_at dksX6_changedSince_1 14 rfl rfl)
theorem dX6_changedSince_39 : decode cX6_changedSince 39 = .ok (.aload_n 0, 1) := dk_42 (dk_at dksX6_changedSince_1 17 rfl rfl)
theorem dX6_changedSince_40 : decode cX6_changedSince 40 = .ok (.getfield 28, 3) := dk_180 0 28 (dk_at dksX6_changedSince_1 18 rfl rfl)
theorem dX6_changedSince_43 : decode cX6_changedSince 43 = .ok (.ifCond .ne 40, 3) := dk_154 0 40 (dk_at dksX6_changedSince_1 21 rfl rfl)
theorem dX6_changedSince_46 : decode cX6_changedSince 46 = .ok (.iload_n 2, 1) := dk_28 (dk_at dksX6_changedSince_2 0 rfl rfl)
theorem dX6_changedSince_47 : decode cX6_changedSince 47 = .ok (.aload_n 0, 1) := dk_42 (dk_at dksX6_changedSince_2 1 rfl rfl)
theorem dX6_changedSince_48 : decode cX6_changedSince 48 = .ok (.aload_n 0, 1) := dk_42 (dk_at dksX6_changedSince_2 2 rfl rfl)
theorem dX6_changedSince_49 : decode cX6_changedSince 49 = .ok (.invokevirtual 90, 3) := dk_182 0 90 (dk_at dksX6_changedSince_2 3 rfl rfl)
theorem dX6_changedSince_52 : decode cX6_changedSince 52 = .ok (.iload_n 3, 1) := dk_29 (dk_at dksX6_changedSince_2 6 rfl rfl)
theorem dX6_changedSince_53 : decode cX6_changedSince 53 = .ok (.invokevirtual 139, 3) := dk_182 0 139 (dk_at dksX6_changedSince_2 7 rfl rfl)
theorem dX6_changedSince_56 : decode cX6_changedSince 56 = .ok (.aload_n 0, 1) := dk_42 (dk_at dksX6_changedSince_2 10 rfl rfl)
theorem dX6_changedSince_57 : decode cX6_changedSince 57 = .ok (.aload_n 0, 1) := dk_42 (dk_at dksX6_changedSince_2 11 rfl rfl)
theorem dX6_changedSince_58 : decode cX6_changedSince 58 = .ok (.iload_n 1, 1) := dk_27 (dk_at dksX6_changedSince_2 12 rfl rfl)
theorem dX6_changedSince_59 : decode cX6_changedSince 59 = .ok (.iconst 2, 1) := dk_5 (dk_at dksX6_changedSince_2 13 rfl rfl)
theorem dX6_changedSince_60 : decode cX6_changedSince 60 = .ok (.invokevirtual 50, 3) := dk_182 0 50 (dk_at dksX6_changedSince_2 14 rfl rfl)
theorem dX6_changedSince_63 : decode cX6_changedSince 63 = .ok (.iload_n 3, 1) := dk_29 (dk_at dksX6_changedSince_2 17 rfl rfl)
theorem dX6_changedSince_64 : decode cX6_changedSince 64 = .ok (.invokevirtual 139, 3) := dk_182 0 139 (dk_at dksX6_changedSince_2 18 rfl rfl)
theorem dX6_changedSince_67 : decode cX6_changedSince 67 = .ok (.if_icmp .ne 7, 3) := dk_160 0 7 (dk_at dksX6_changedSince_2 21 rfl rfl)
theorem dX6_changedSince_70 : decode cX6_changedSince 70 = .ok (.iconst 0, 1) := dk_3 (dk_at dksX6_changedSince_3 0 rfl rfl)
theorem dX6_changedSince_71 : decode cX6_changedSince 71 = .ok (.goto 4, 3) := dk_167 0 4 (dk_at dksX6_changedSince_3 1 rfl rfl)
theorem dX6_changedSince_74 : decode cX6_changedSince 74 = .ok (.iconst 1, 1) := dk_4 (dk_at dksX6_changedSince_3 4 rfl rfl)
theorem dX6_changedSince_75 : decode cX6_changedSince 75 = .ok (.iadd, 1) := dk_96 (dk_at dksX6_changedSince_3 5 rfl rfl)
theorem dX6_changedSince_76 : decode cX6_changedSince 76 = .ok (.istore_n 2, 1) := dk_61 (dk_at dksX6_changedSince_3 6 rfl rfl)
theorem dX6_changedSince_77 : decode cX6_changedSince 77 = .ok (.iinc 3 1, 3) := dk_132 3 1 (dk_at dksX6_changedSince_3 7 rfl rfl)
theorem dX6_changedSince_80 : decode cX6_changedSince 80 = .ok (.goto (-47), 3) := dk_167 255 209 (dk_at dksX6_changedSince_3 10 rfl rfl)
theorem dX6_changedSince_83 : decode cX6_changedSince 83 = .ok (.iload_n 2, 1) := dk_28 (dk_at dksX6_changedSince_3 13 rfl rfl)
theorem dX6_changedSince_84 : decode cX6_changedSince 84 = .ok (.ireturn, 1) := dk_172 (dk_at dksX6_changedSince_3 14 rfl rfl)
/-! PageGardenModel.changedSince(I)I -/
abbrev M_X6_changedSince (z0 n0 : Nat) (s' : gS) : gM := (RX6, cX6_changedSince, 4, (some FieldType.int), "changedSince", [], 5, z0, n0, s'.2.1, s'.2.2)
abbrev W_X6_changedSince (E : gE) (z0 n0 : Nat) (r : Int32) (s' : gS) (pc : Nat) (L : List (Nat × gV)) (st : List gV) (s : gS) : Prop := gW E (M_X6_changedSince z0 n0 s') (gQm E (M_X6_changedSince z0 n0 s') (.inl (some (vI r))) s') pc L st s
noncomputable def f_X6_changedSince_75 (κ : gK) (F : Nat) (k33 : Option Nat → Int32 → Int32 → Int32 → gS → Option (Int32 × gS)) (l0 : Option Nat) (l1 : Int32) (l3 : Int32) (t0 : Int32) (t1 : Int32) (s : gS) : Option (Int32 × gS) :=
  k33 l0 l1 (t0 + t1) (l3 + (1 : Int32)) s
set_option maxHeartbeats 4000000 in
theorem w_X6_changedSince_75 {E : gE} {F z0 n0 : Nat} {r : Int32} {s' : gS} {k33 : Option Nat → Int32 → Int32 → Int32 → gS → Option (Int32 × gS)} (hk33 : ∀ (l0 : Option Nat) (l1 : Int32) (l2 : Int32) (l3 : Int32) (s : gS), k33 l0 l1 l2 l3 s = some (r, s') → W_X6_changedSince E z0 n0 r s' 33 [(0, vR l0), (1, vI l1), (2, vI l2), (3, vI l3)] [] s) : ∀ (l0 : Option Nat) (l1 : Int32) (l3 : Int32) (t0 : Int32) (t1 : Int32) (s : gS), f_X6_changedSince_75 (gk E) F k33 l0 l1 l3 t0 t1 s = some (r, s') → W_X6_changedSince E z0 n0 r s' 75 [(0, vR l0), (1, vI l1), (3, vI l3)] [vI t1, vI t0] s := by
  intro l0 l1 l3 t0 t1 s hB
  unfold f_X6_changedSince_75 at hB
  refine gw_iadd dX6_changedSince_75 ?_
  refine gw_istore_n (L' := [(2, vI (t0 + t1)), (0, vR l0), (1, vI l1), (3, vI l3)]) (Nat.le_of_ble_eq_true rfl) rfl dX6_changedSince_76 ?_
  refine gw_iinc (w := (1 : Int32)) (L' := [(3, vI (l3 + (1 : Int32))), (2, vI (t0 + t1)), (0, vR l0), (1, vI l1)]) 3 rfl (by decide) (Nat.le_of_ble_eq_true rfl) rfl dX6_changedSince_77 ?_
  refine gw_goto (tgt := 33) dX6_changedSince_80 (by decide) ?_
  exact gw_sub [2, 3, 1, 0] rfl (hk33 _ _ _ _ _ hB)
noncomputable def f_X6_changedSince_83 (κ : gK) (F : Nat)  (l2 : Int32) (s : gS) : Option (Int32 × gS) :=
  some (l2, s)
set_option maxHeartbeats 4000000 in
theorem w_X6_changedSince_83 {E : gE} {F z0 n0 : Nat} {r : Int32} {s' : gS}   : ∀ (l2 : Int32)  (s : gS), f_X6_changedSince_83 (gk E) F  l2 s = some (r, s') → W_X6_changedSince E z0 n0 r s' 83 [(2, vI l2)] [] s := by
  intro l2 s hB
  unfold f_X6_changedSince_83 at hB
  refine gw_iload_n 0 rfl dX6_changedSince_83 ?_
  obtain ⟨rfl, rfl⟩ := Prod.mk.inj (Option.some.inj hB)
  exact gw_iret rfl rfl rfl dX6_changedSince_84
noncomputable def f_X6_changedSince_33b (κ : gK) (F : Nat) (k33 : Option Nat → Int32 → Int32 → Int32 → gS → Option (Int32 × gS)) (l0 : Option Nat) (l1 : Int32) (l2 : Int32) (l3 : Int32) (s : gS) : Option (Int32 × gS) :=
  if (100 : Int32) ≤ l3 then
    f_X6_changedSince_83 κ F  l2 s
  else
    gB1 (gfI s l0 9 6) fun v1 =>
    if v1 = 0 then
      gB1 (gck s l0 9) fun _ =>
      gB2 (f_X6_now κ F l0  s) fun v3 s2 =>
      gB1 (gck s2 l0 9) fun _ =>
      gB2 (f_X6_valueBy κ F l0 v3 l3 s2) fun v6 s5 =>
      gB1 (gck s5 l0 9) fun _ =>
      gB2 (f_X6_ofReader κ F l0 l1 (2 : Int32) s5) fun v9 s8 =>
      gB1 (gck s8 l0 9) fun _ =>
      gB2 (f_X6_valueBy κ F l0 v9 l3 s8) fun v12 s11 =>
      if v6 = v12 then
        f_X6_changedSince_75 κ F k33 l0 l1 l3 l2 (0 : Int32) s11
      else
        f_X6_changedSince_75 κ F k33 l0 l1 l3 l2 (1 : Int32) s11
    else
      f_X6_changedSince_83 κ F  l2 s
noncomputable def f_X6_changedSince_33 (κ : gK) (F : Nat)  : Nat → Option Nat → Int32 → Int32 → Int32 → gS → Option (Int32 × gS)
  | 0 => fun _ _ _ _ _ => none
  | n + 1 => f_X6_changedSince_33b κ F  (f_X6_changedSince_33 κ F  n)
set_option maxHeartbeats 4000000 in
theorem w_X6_changedSince_33b {E : gE} {F z0 n0 : Nat} {r : Int32} {s' : gS} {k33 : Option Nat → Int32 → Int32 → Int32 → gS → Option (Int32 × gS)} (hk33 : ∀ (l0 : Option Nat) (l1 : Int32) (l2 : Int32) (l3 : Int32) (s : gS), k33 l0 l1 l2 l3 s = some (r, s') → W_X6_changedSince E z0 n0 r s' 33 [(0, vR l0), (1, vI l1), (2, vI l2), (3, vI l3)] [] s) : ∀ (l0 : Option Nat) (l1 : Int32) (l2 : Int32) (l3 : Int32)  (s : gS), f_X6_changedSince_33b (gk E) F k33 l0 l1 l2 l3 s = some (r, s') → W_X6_changedSince E z0 n0 r s' 33 [(0, vR l0), (1, vI l1), (2, vI l2), (3, vI l3)] [] s := by
  intro l0 l1 l2 l3 s hB
  unfold f_X6_changedSince_33b at hB
  refine gw_iload_n 3 rfl dX6_changedSince_33 ?_
  refine gw_bipush (v := (100 : Int32)) (by decide) dX6_changedSince_34 ?_
  refine gw_icmp_ge (tgt := 83) dX6_changedSince_36 (by decide) (fun hcnd => ?_) (fun hcnd => ?_)
  · rw [if_pos hcnd] at hB
    exact gw_sub [2] rfl (w_X6_changedSince_83  _ _ hB)
  · rw [if_neg hcnd] at hB
    refine gw_aload_n 0 rfl dX6_changedSince_39 ?_
    obtain ⟨v1, hv1, hB⟩ := gB1_some hB
    refine gw_getf (C := RX6) (T := TX6) (N := 13) (k := 6) gcl9 (by decide) in_X6 q2700 (gfI_spec hv1) dX6_changedSince_40 ?_
    refine gw_if_ne (tgt := 83) dX6_changedSince_43 (by decide) (fun hcnd => ?_) (fun hcnd => ?_)
    · rw [if_neg hcnd] at hB
      exact gw_sub [2] rfl (w_X6_changedSince_83  _ _ hB)
    · rw [if_pos hcnd] at hB
      refine gw_iload_n 2 rfl dX6_changedSince_46 ?_
      refine gw_aload_n 0 rfl dX6_changedSince_47 ?_
      refine gw_aload_n 0 rfl dX6_changedSince_48 ?_
      obtain ⟨u0, hu4, hB⟩ := gB1_some hB
      obtain ⟨v3, s2, hv3, hB⟩ := gB2_some hB
      refine gw_callV (y := yX6_now) (lw_V q2788 q2790 qs56 q143 q2791) hdV_X6_now gcl9 hu4 (As := []) (rest := [vR l0, vI l2]) (m_X6_now _ _ _ _ hv3) (Nat.le_of_ble_eq_true rfl) (Nat.le_of_ble_eq_true rfl) rfl (Nat.le_of_ble_eq_true rfl) dX6_changedSince_49 (gCont_i ?_)
      refine gw_iload_n 3 rfl dX6_changedSince_52 ?_
      obtain ⟨u0, hu7, hB⟩ := gB1_some hB
      obtain ⟨v6, s5, hv6, hB⟩ := gB2_some hB
      refine gw_callV (y := yX6_valueBy) (lw_V q2888 q2890 qs80 q143 q2891) hdV_X6_valueBy gcl9 hu7 (As := [vI v3, vI l3]) (rest := [vI l2]) (m_X6_valueBy _ _ _ _ _ _ hv6) (Nat.le_of_ble_eq_true rfl) (Nat.le_of_ble_eq_true rfl) rfl (Nat.le_of_ble_eq_true rfl) dX6_changedSince_53 (gCont_i ?_)
      refine gw_aload_n 0 rfl dX6_changedSince_56 ?_
      refine gw_aload_n 0 rfl dX6_changedSince_57 ?_
      refine gw_iload_n 1 rfl dX6_changedSince_58 ?_
      refine gw_iconst (v := (2 : Int32)) (by decide) dX6_changedSince_59 ?_
      obtain ⟨u0, hu10, hB⟩ := gB1_some hB
      obtain ⟨v9, s8, hv9, hB⟩ := gB2_some hB
      refine gw_callV (y := yX6_ofReader) (lw_V q2824 q2826 qs65 q143 q2827) hdV_X6_ofReader gcl9 hu10 (As := [vI l1, vI (2 : Int32)]) (rest := [vR l0, vI v6, vI l2]) (m_X6_ofReader _ _ _ _ _ _ hv9) (Nat.le_of_ble_eq_true rfl) (Nat.le_of_ble_eq_true rfl) rfl (Nat.le_of_ble_eq_true rfl) dX6_changedSince_60 (gCont_i ?_)
      refine gw_iload_n 3 rfl dX6_changedSince_63 ?_
      obtain ⟨u0, hu13, hB⟩ := gB1_some hB
      obtain ⟨v12, s11, hv12, hB⟩ := gB2_some hB
      refine gw_callV (y := yX6_valueBy) (lw_V q2888 q2890 qs80 q143 q2891) hdV_X6_valueBy gcl9 hu13 (As := [vI v9, vI l3]) (rest := [vI v6, vI l2]) (m_X6_valueBy _ _ _ _ _ _ hv12) (Nat.le_of_ble_eq_true rfl) (Nat.le_of_ble_eq_true rfl) rfl (Nat.le_of_ble_eq_true rfl) dX6_changedSince_64 (gCont_i ?_)
      refine gw_icmp_ne (tgt := 74) dX6_changedSince_67 (by decide) (fun hcnd => ?_) (fun hcnd => ?_)
      · rw [if_neg hcnd] at hB
        refine gw_iconst (v := (1 : Int32)) (by decide) dX6_changedSince_74 ?_
        exact gw_sub [0, 1, 3] rfl (w_X6_changedSince_75 hk33 _ _ _ _ _ _ hB)
      · rw [if_pos hcnd] at hB
        refine gw_iconst (v := (0 : Int32)) (by decide) dX6_changedSince_70 ?_
        refine gw_goto (tgt := 75) dX6_changedSince_71 (by decide) ?_
        exact gw_sub [0, 1, 3] rfl (w_X6_changedSince_75 hk33 _ _ _ _ _ _ hB)
theorem w_X6_changedSince_33 {E : gE} {F z0 n0 : Nat} {r : Int32} {s' : gS}   : ∀ (n : Nat) (l0 : Option Nat) (l1 : Int32) (l2 : Int32) (l3 : Int32)  (s : gS), f_X6_changedSince_33 (gk E) F  n l0 l1 l2 l3 s = some (r, s') → W_X6_changedSince E z0 n0 r s' 33 [(0, vR l0), (1, vI l1), (2, vI l2), (3, vI l3)] [] s := by
  intro n
  induction n with
  | zero => intro l0 l1 l2 l3 s hB; cases hB
  | succ n ih => intro l0 l1 l2 l3 s hB; exact w_X6_changedSince_33b ih l0 l1 l2 l3 s hB
noncomputable def f_X6_changedSince_26 (κ : gK) (F : Nat)  (l0 : Option Nat) (l1 : Int32) (t0 : Option Nat) (t1 : Int32) (s : gS) : Option (Int32 × gS) :=
  gB1 (gpf κ s t0 9 6 (.int t1)) fun s1 =>
  f_X6_changedSince_33 κ F  F l0 l1 (0 : Int32) (0 : Int32) s1
set_option maxHeartbeats 4000000 in
theorem w_X6_changedSince_26 {E : gE} {F z0 n0 : Nat} {r : Int32} {s' : gS}   : ∀ (l0 : Option Nat) (l1 : Int32) (t0 : Option Nat) (t1 : Int32) (s : gS), f_X6_changedSince_26 (gk E) F  l0 l1 t0 t1 s = some (r, s') → W_X6_changedSince E z0 n0 r s' 26 [(0, vR l0), (1, vI l1)] [vI t1, vR t0] s := by
  intro l0 l1 t0 t1 s hB
  unfold f_X6_changedSince_26 at hB
  obtain ⟨s1, hs1, hB⟩ := gB1_some hB
  refine gw_putf (C := RX6) (T := TX6) (N := 13) (k := 6) tyX6 tyX6_ok nmX6 gcl9 (by decide) in_X6 q2700 rfl (tyX6_ok 6 (by decide)) (gNF_i _) hs1 dX6_changedSince_26 ?_
  refine gw_iconst (v := (0 : Int32)) (by decide) dX6_changedSince_29 ?_
  refine gw_istore_n (L' := [(2, vI (0 : Int32)), (0, vR l0), (1, vI l1)]) (Nat.le_of_ble_eq_true rfl) rfl dX6_changedSince_30 ?_
  refine gw_iconst (v := (0 : Int32)) (by decide) dX6_changedSince_31 ?_
  refine gw_istore_n (L' := [(3, vI (0 : Int32)), (2, vI (0 : Int32)), (0, vR l0), (1, vI l1)]) (Nat.le_of_ble_eq_true rfl) rfl dX6_changedSince_32 ?_
  exact gw_sub [2, 3, 1, 0] rfl (w_X6_changedSince_33  F _ _ _ _ _ hB)
noncomputable def f_X6_changedSince_0 (κ : gK) (F : Nat)  (l0 : Option Nat) (l1 : Int32) (s : gS) : Option (Int32 × gS) :=
  gB2 (f_X6_isReader κ F l1 s) fun v2 s1 =>
  if v2 = 0 then
    f_X6_changedSince_26 κ F  l0 l1 l0 (1 : Int32) s1
  else
    gB1 (gck s1 l0 9) fun _ =>
    gB2 (f_X6_ofReader κ F l0 l1 (0 : Int32) s1) fun v4 s3 =>
    if v4 = 0 then
      f_X6_changedSince_26 κ F  l0 l1 l0 (2 : Int32) s3
    else
      f_X6_changedSince_26 κ F  l0 l1 l0 (0 : Int32) s3
set_option maxHeartbeats 4000000 in
theorem w_X6_changedSince_0 {E : gE} {F z0 n0 : Nat} {r : Int32} {s' : gS}   : ∀ (l0 : Option Nat) (l1 : Int32)  (s : gS), f_X6_changedSince_0 (gk E) F  l0 l1 s = some (r, s') → W_X6_changedSince E z0 n0 r s' 0 [(0, vR l0), (1, vI l1)] [] s := by
  intro l0 l1 s hB
  unfold f_X6_changedSince_0 at hB
  refine gw_aload_n 0 rfl dX6_changedSince_0 ?_
  refine gw_iload_n 1 rfl dX6_changedSince_1 ?_
  obtain ⟨v2, s1, hv2, hB⟩ := gB2_some hB
  refine gw_callS (y := yX6_isReader) (lw_S q2955 q2956 q143 q2957) hdS_X6_isReader (As := [vI l1]) (rest := [vR l0]) (m_X6_isReader _ _ _ _ hv2) (Nat.le_of_ble_eq_true rfl) (Nat.le_of_ble_eq_true rfl) rfl (Nat.le_of_ble_eq_true rfl) dX6_changedSince_2 (gCont_i ?_)
  refine gw_if_ne (tgt := 12) dX6_changedSince_5 (by decide) (fun hcnd => ?_) (fun hcnd => ?_)
  · rw [if_neg hcnd] at hB
    refine gw_aload_n 0 rfl dX6_changedSince_12 ?_
    refine gw_iload_n 1 rfl dX6_changedSince_13 ?_
    refine gw_iconst (v := (0 : Int32)) (by decide) dX6_changedSince_14 ?_
    obtain ⟨u0, hu5, hB⟩ := gB1_some hB
    obtain ⟨v4, s3, hv4, hB⟩ := gB2_some hB
    refine gw_callV (y := yX6_ofReader) (lw_V q2824 q2826 qs65 q143 q2827) hdV_X6_ofReader gcl9 hu5 (As := [vI l1, vI (0 : Int32)]) (rest := [vR l0]) (m_X6_ofReader _ _ _ _ _ _ hv4) (Nat.le_of_ble_eq_true rfl) (Nat.le_of_ble_eq_true rfl) rfl (Nat.le_of_ble_eq_true rfl) dX6_changedSince_15 (gCont_i ?_)
    refine gw_if_ne (tgt := 25) dX6_changedSince_18 (by decide) (fun hcnd => ?_) (fun hcnd => ?_)
    · rw [if_neg hcnd] at hB
      refine gw_iconst (v := (0 : Int32)) (by decide) dX6_changedSince_25 ?_
      exact gw_sub [0, 1] rfl (w_X6_changedSince_26  _ _ _ _ _ hB)
    · rw [if_pos hcnd] at hB
      refine gw_iconst (v := (2 : Int32)) (by decide) dX6_changedSince_21 ?_
      refine gw_goto (tgt := 26) dX6_changedSince_22 (by decide) ?_
      exact gw_sub [0, 1] rfl (w_X6_changedSince_26  _ _ _ _ _ hB)
  · rw [if_pos hcnd] at hB
    refine gw_iconst (v := (1 : Int32)) (by decide) dX6_changedSince_8 ?_
    refine gw_goto (tgt := 26) dX6_changedSince_9 (by decide) ?_
    exact gw_sub [0, 1] rfl (w_X6_changedSince_26  _ _ _ _ _ hB)
noncomputable def f_X6_changedSince (κ : gK) (F : Nat) (a0 : Option Nat) (a1 : Int32) (s : gS) : Option (Int32 × gS) := f_X6_changedSince_0 κ F a0 a1 s
theorem m_X6_changedSince {E : gE} {F : Nat} (a0 : Option Nat) (a1 : Int32) (s : gS) (r : Int32) (s' : gS) (h : f_X6_changedSince (gk E) F a0 a1 s = some (r, s')) : gCT E 5 yX6_changedSince (ws_ yX6_changedSince cX6_changedSince 4 (some FieldType.int)) [vR a0, vI a1] s (.inl (some (vI r))) s' := by
  refine gCT_of2 (fun _ h => absurd h (by decide)) (plainFor_of_name (by decide)) (Nat.le_of_ble_eq_true rfl) ?_
  exact gw_sub [0, 1] rfl (w_X6_changedSince_0 _ _ _ h)
def dkwX6_type_2 : List UInt8 := [79, 42, 89, 180, 0, 211, 4, 96, 181, 0, 211, 42, 180, 0, 211, 172]
abbrev dktX6_type_2 : List UInt8 := dkwX6_type_2 ++ []
def dkwX6_type_1 : List UInt8 := [180, 0, 211, 17, 0, 150, 160, 0, 9, 42, 5, 182, 0, 181, 172, 42, 180, 0, 19, 42, 180, 0, 211, 27]
abbrev dktX6_type_1 : List UInt8 := dkwX6_type_1 ++ dktX6_type_2
def dkwX6_type_0 : List UInt8 := [42, 3, 181, 0, 28, 27, 3, 16, 127, 184, 0, 113, 154, 0, 9, 42, 4, 182, 0, 181, 172, 42]
abbrev dktX6_type_0 : List UInt8 := dkwX6_type_0 ++ dktX6_type_1
theorem dksX6_type_0 : cX6_type.data.toList.drop 0 = dktX6_type_0 := by decide +kernel
theorem dksX6_type_1 : cX6_type.data.toList.drop 22 = dktX6_type_1 := dk_seg dksX6_type_0 22 rfl rfl
theorem dksX6_type_2 : cX6_type.data.toList.drop 46 = dktX6_type_2 := dk_seg dksX6_type_1 24 rfl rfl
theorem dX6_type_0 : decode cX6_type 0 = .ok (.aload_n 0, 1) := dk_42 (dk_at dksX6_type_0 0 rfl rfl)
theorem dX6_type_1 : decode cX6_type 1 = .ok (.iconst 0, 1) := dk_3 (dk_at dksX6_type_0 1 rfl rfl)
theorem dX6_type_2 : decode cX6_type 2 = .ok (.putfield 28, 3) := dk_181 0 28 (dk_at dksX6_type_0 2 rfl rfl)
theorem dX6_type_5 : decode cX6_type 5 = .ok (.iload_n 1, 1) := dk_27 (dk_at dksX6_type_0 5 rfl rfl)
theorem dX6_type_6 : decode cX6_type 6 = .ok (.iconst 0, 1) := dk_3 (dk_at dksX6_type_0 6 rfl rfl)
theorem dX6_type_7 : decode cX6_type 7 = .ok (.bipush 127, 2) := dk_16 127 (dk_at dksX6_type_0 7 rfl rfl)
theorem dX6_type_9 : decode cX6_type 9 = .ok (.invokestatic 113, 3) := dk_184 0 113 (dk_at dksX6_type_0 9 rfl rfl)
theorem dX6_type_12 : decode cX6_type 12 = .ok (.ifCond .ne 9, 3) := dk_154 0 9 (dk_at dksX6_type_0 12 rfl rfl)
theorem dX6_type_15 : decode cX6_type 15 = .ok (.aload_n 0, 1) := dk_42 (dk_at dksX6_type_0 15 rfl rfl)
theorem dX6_type_16 : decode cX6_type 16 = .ok (.iconst 1, 1) := dk_4 (dk_at dksX6_type_0 16 rfl rfl)
theorem dX6_type_17 : decode cX6_type 17 = .ok (.invokevirtual 181, 3) := dk_182 0 181 (dk_at dksX6_type_0 17 rfl rfl)
theorem dX6_type_20 : decode cX6_type 20 = .ok (.ireturn, 1) := dk_172 (dk_at dksX6_type_0 20 rfl rfl)
theorem dX6_type_21 : decode cX6_type 21 = .ok (.aload_n 0, 1) := dk_42 (dk_at dksX6_type_0 21 rfl rfl)
theorem dX6_type_22 : decode cX6_type 22 = .ok (.getfield 211, 3) := dk_180 0 211 (dk_at dksX6_type_1 0 rfl rfl)
theorem dX6_type_25 : decode cX6_type 25 = .ok (.sipush 150, 3) := dk_17 0 150 (dk_at dksX6_type_1 3 rfl rfl)
theorem dX6_type_28 : decode cX6_type 28 = .ok (.if_icmp .ne 9, 3) := dk_160 0 9 (dk_at dksX6_type_1 6 rfl rfl)
theorem dX6_type_31 : decode cX6_type 31 = .ok (.aload_n 0, 1) := dk_42 (dk_at dksX6_type_1 9 rfl rfl)
theorem dX6_type_32 : decode cX6_type 32 = .ok (.iconst 2, 1) := dk_5 (dk_at dksX6_type_1 10 rfl rfl)
theorem dX6_type_33 : decode cX6_type 33 = .ok (.invokevirtual 181, 3) := dk_182 0 181 (dk_at dksX6_type_1 11 rfl rfl)
theorem dX6_type_36 : decode cX6_type 36 = .ok (.ireturn, 1) := dk_172 (dk_at dksX6_type_1 14 rfl rfl)
theorem dX6_type_37 : decode cX6_type 37 = .ok (.aload_n 0, 1) := dk_42 (dk_at dksX6_type_1 15 rfl rfl)
theorem dX6_type_38 : decode cX6_type 38 = .ok (.getfield 19, 3) := dk_180 0 19 (dk_at dksX6_type_1 16 rfl rfl)
theorem dX6_type_41 : decode cX6_type 41 = .ok (.aload_n 0, 1) := dk_42 (dk_at dksX6_type_1 19 rfl rfl)
theorem dX6_type_42 : decode cX6_type 42 = .ok (.getfield 211, 3) := dk_180 0 211 (dk_at dksX6_type_1 20 rfl rfl)
theorem dX6_type_45 : decode cX6_type 45 = .ok (.iload_n 1, 1) := dk_27 (dk_at dksX6_type_1 23 rfl rfl)
theorem dX6_type_46 : decode cX6_type 46 = .ok (.iastore, 1) := dk_79 (dk_at dksX6_type_2 0 rfl rfl)
theorem dX6_type_47 : decode cX6_type 47 = .ok (.aload_n 0, 1) := dk_42 (dk_at dksX6_type_2 1 rfl rfl)
theorem dX6_type_48 : decode cX6_type 48 = .ok (.dup, 1) := dk_89 (dk_at dksX6_type_2 2 rfl rfl)
theorem dX6_type_49 : decode cX6_type 49 = .ok (.getfield 211, 3) := dk_180 0 211 (dk_at dksX6_type_2 3 rfl rfl)
theorem dX6_type_52 : decode cX6_type 52 = .ok (.iconst 1, 1) := dk_4 (dk_at dksX6_type_2 6 rfl rfl)
theorem dX6_type_53 : decode cX6_type 53 = .ok (.iadd, 1) := dk_96 (dk_at dksX6_type_2 7 rfl rfl)
theorem dX6_type_54 : decode cX6_type 54 = .ok (.putfield 211, 3) := dk_181 0 211 (dk_at dksX6_type_2 8 rfl rfl)
theorem dX6_type_57 : decode cX6_type 57 = .ok (.aload_n 0, 1) := dk_42 (dk_at dksX6_type_2 11 rfl rfl)
theorem dX6_type_58 : decode cX6_type 58 = .ok (.getfield 211, 3) := dk_180 0 211 (dk_at dksX6_type_2 12 rfl rfl)
theorem dX6_type_61 : decode cX6_type 61 = .ok (.ireturn, 1) := dk_172 (dk_at dksX6_type_2 15 rfl rfl)
/-! PageGardenModel.type(I)I -/
abbrev M_X6_type (z0 n0 : Nat) (s' : gS) : gM := (RX6, cX6_type, 2, (some FieldType.int), "type", [], 2, z0, n0, s'.2.1, s'.2.2)
abbrev W_X6_type (E : gE) (z0 n0 : Nat) (r : Int32) (s' : gS) (pc : Nat) (L : List (Nat × gV)) (st : List gV) (s : gS) : Prop := gW E (M_X6_type z0 n0 s') (gQm E (M_X6_type z0 n0 s') (.inl (some (vI r))) s') pc L st s
noncomputable def f_X6_type_0 (κ : gK) (F : Nat)  (l0 : Option Nat) (l1 : Int32) (s : gS) : Option (Int32 × gS) :=
  gB1 (gpf κ s l0 9 6 (.int (0 : Int32))) fun s1 =>
  gB2 (f_X6_in κ F l1 (0 : Int32) (127 : Int32) s1) fun v3 s2 =>
  if v3 = 0 then
    gB1 (gck s2 l0 9) fun _ =>
    gB2 (f_X6_fails κ F l0 (1 : Int32) s2) fun v15 s14 =>
    some (v15, s14)
  else
    gB1 (gfI s2 l0 9 5) fun v4 =>
    if v4 = (150 : Int32) then
      gB1 (gck s2 l0 9) fun _ =>
      gB2 (f_X6_fails κ F l0 (2 : Int32) s2) fun v12 s11 =>
      some (v12, s11)
    else
      gB1 (gfR s2 l0 9 4) fun v5 =>
      gB1 (gfI s2 l0 9 5) fun v6 =>
      gB1 (gsI κ s2 v5 v6 l1) fun s7 =>
      gB1 (gfI s7 l0 9 5) fun v8 =>
      gB1 (gpf κ s7 l0 9 5 (.int (v8 + (1 : Int32)))) fun s9 =>
      gB1 (gfI s9 l0 9 5) fun v10 =>
      some (v10, s9)
set_option maxHeartbeats 4000000 in
theorem w_X6_type_0 {E : gE} {F z0 n0 : Nat} {r : Int32} {s' : gS}   : ∀ (l0 : Option Nat) (l1 : Int32)  (s : gS), f_X6_type_0 (gk E) F  l0 l1 s = some (r, s') → W_X6_type E z0 n0 r s' 0 [(0, vR l0), (1, vI l1)] [] s := by
  intro l0 l1 s hB
  unfold f_X6_type_0 at hB
  refine gw_aload_n 0 rfl dX6_type_0 ?_
  refine gw_iconst (v := (0 : Int32)) (by decide) dX6_type_1 ?_
  obtain ⟨s1, hs1, hB⟩ := gB1_some hB
  refine gw_putf (C := RX6) (T := TX6) (N := 13) (k := 6) tyX6 tyX6_ok nmX6 gcl9 (by decide) in_X6 q2700 rfl (tyX6_ok 6 (by decide)) (gNF_i _) hs1 dX6_type_2 ?_
  refine gw_iload_n 1 rfl dX6_type_5 ?_
  refine gw_iconst (v := (0 : Int32)) (by decide) dX6_type_6 ?_
  refine gw_bipush (v := (127 : Int32)) (by decide) dX6_type_7 ?_
  obtain ⟨v3, s2, hv3, hB⟩ := gB2_some hB
  refine gw_callS (y := yX6_in) (lw_S q2777 q2778 q143 q2779) hdS_X6_in (As := [vI l1, vI (0 : Int32), vI (127 : Int32)]) (rest := []) (m_X6_in _ _ _ _ _ _ hv3) (Nat.le_of_ble_eq_true rfl) (Nat.le_of_ble_eq_true rfl) rfl (Nat.le_of_ble_eq_true rfl) dX6_type_9 (gCont_i ?_)
  refine gw_if_ne (tgt := 21) dX6_type_12 (by decide) (fun hcnd => ?_) (fun hcnd => ?_)
  · rw [if_neg hcnd] at hB
    refine gw_aload_n 0 rfl dX6_type_21 ?_
    obtain ⟨v4, hv4, hB⟩ := gB1_some hB
    refine gw_getf (C := RX6) (T := TX6) (N := 13) (k := 5) gcl9 (by decide) in_X6 q2699 (gfI_spec hv4) dX6_type_22 ?_
    refine gw_sipush (v := (150 : Int32)) (by decide) dX6_type_25 ?_
    refine gw_icmp_ne (tgt := 37) dX6_type_28 (by decide) (fun hcnd => ?_) (fun hcnd => ?_)
    · rw [if_neg hcnd] at hB
      refine gw_aload_n 0 rfl dX6_type_37 ?_
      obtain ⟨v5, hv5, hB⟩ := gB1_some hB
      refine gw_getf (C := RX6) (T := TX6) (N := 13) (k := 4) gcl9 (by decide) in_X6 q2698 (gfR_spec hv5) dX6_type_38 ?_
      refine gw_aload_n 0 rfl dX6_type_41 ?_
      obtain ⟨v6, hv6, hB⟩ := gB1_some hB
      refine gw_getf (C := RX6) (T := TX6) (N := 13) (k := 5) gcl9 (by decide) in_X6 q2699 (gfI_spec hv6) dX6_type_42 ?_
      refine gw_iload_n 1 rfl dX6_type_45 ?_
      obtain ⟨s7, hs7, hB⟩ := gB1_some hB
      refine gw_iastore hs7 dX6_type_46 ?_
      refine gw_aload_n 0 rfl dX6_type_47 ?_
      refine gw_dup rfl dX6_type_48 ?_
      obtain ⟨v8, hv8, hB⟩ := gB1_some hB
      refine gw_getf (C := RX6) (T := TX6) (N := 13) (k := 5) gcl9 (by decide) in_X6 q2699 (gfI_spec hv8) dX6_type_49 ?_
      refine gw_iconst (v := (1 : Int32)) (by decide) dX6_type_52 ?_
      refine gw_iadd dX6_type_53 ?_
      obtain ⟨s9, hs9, hB⟩ := gB1_some hB
      refine gw_putf (C := RX6) (T := TX6) (N := 13) (k := 5) tyX6 tyX6_ok nmX6 gcl9 (by decide) in_X6 q2699 rfl (tyX6_ok 5 (by decide)) (gNF_i _) hs9 dX6_type_54 ?_
      refine gw_aload_n 0 rfl dX6_type_57 ?_
      obtain ⟨v10, hv10, hB⟩ := gB1_some hB
      refine gw_getf (C := RX6) (T := TX6) (N := 13) (k := 5) gcl9 (by decide) in_X6 q2699 (gfI_spec hv10) dX6_type_58 ?_
      obtain ⟨rfl, rfl⟩ := Prod.mk.inj (Option.some.inj hB)
      exact gw_iret rfl rfl rfl dX6_type_61
    · rw [if_pos hcnd] at hB
      refine gw_aload_n 0 rfl dX6_type_31 ?_
      refine gw_iconst (v := (2 : Int32)) (by decide) dX6_type_32 ?_
      obtain ⟨u0, hu13, hB⟩ := gB1_some hB
      obtain ⟨v12, s11, hv12, hB⟩ := gB2_some hB
      refine gw_callV (y := yX6_fails) (lw_V q2943 q2945 qs88 q143 q2946) hdV_X6_fails gcl9 hu13 (As := [vI (2 : Int32)]) (rest := []) (m_X6_fails _ _ _ _ _ hv12) (Nat.le_of_ble_eq_true rfl) (Nat.le_of_ble_eq_true rfl) rfl (Nat.le_of_ble_eq_true rfl) dX6_type_33 (gCont_i ?_)
      obtain ⟨rfl, rfl⟩ := Prod.mk.inj (Option.some.inj hB)
      exact gw_iret rfl rfl rfl dX6_type_36
  · rw [if_pos hcnd] at hB
    refine gw_aload_n 0 rfl dX6_type_15 ?_
    refine gw_iconst (v := (1 : Int32)) (by decide) dX6_type_16 ?_
    obtain ⟨u0, hu16, hB⟩ := gB1_some hB
    obtain ⟨v15, s14, hv15, hB⟩ := gB2_some hB
    refine gw_callV (y := yX6_fails) (lw_V q2943 q2945 qs88 q143 q2946) hdV_X6_fails gcl9 hu16 (As := [vI (1 : Int32)]) (rest := []) (m_X6_fails _ _ _ _ _ hv15) (Nat.le_of_ble_eq_true rfl) (Nat.le_of_ble_eq_true rfl) rfl (Nat.le_of_ble_eq_true rfl) dX6_type_17 (gCont_i ?_)
    obtain ⟨rfl, rfl⟩ := Prod.mk.inj (Option.some.inj hB)
    exact gw_iret rfl rfl rfl dX6_type_20
noncomputable def f_X6_type (κ : gK) (F : Nat) (a0 : Option Nat) (a1 : Int32) (s : gS) : Option (Int32 × gS) := f_X6_type_0 κ F a0 a1 s
theorem m_X6_type {E : gE} {F : Nat} (a0 : Option Nat) (a1 : Int32) (s : gS) (r : Int32) (s' : gS) (h : f_X6_type (gk E) F a0 a1 s = some (r, s')) : gCT E 2 yX6_type (ws_ yX6_type cX6_type 2 (some FieldType.int)) [vR a0, vI a1] s (.inl (some (vI r))) s' := by
  refine gCT_of2 (fun h => absurd h (by decide)) (plainFor_of_name (by decide)) (Nat.le_of_ble_eq_true rfl) ?_
  exact gw_sub [0, 1] rfl (w_X6_type_0 _ _ _ h)
def dkwX6_clearCommands_0 : List UInt8 := [42, 3, 181, 0, 28, 42, 180, 0, 211, 60, 42, 3, 181, 0, 211, 27, 172]
abbrev dktX6_clearCommands_0 : List UInt8 := dkwX6_clearCommands_0 ++ []
theorem dksX6_clearCommands_0 : cX6_clearCommands.data.toList.drop 0 = dktX6_clearCommands_0 := by decide +kernel
theorem dX6_clearCommands_0 : decode cX6_clearCommands 0 = .ok (.aload_n 0, 1) := dk_42 (dk_at dksX6_clearCommands_0 0 rfl rfl)
theorem dX6_clearCommands_1 : decode cX6_clearCommands 1 = .ok (.iconst 0, 1) := dk_3 (dk_at dksX6_clearCommands_0 1 rfl rfl)
theorem dX6_clearCommands_2 : decode cX6_clearCommands 2 = .ok (.putfield 28, 3) := dk_181 0 28 (dk_at dksX6_clearCommands_0 2 rfl rfl)
theorem dX6_clearCommands_5 : decode cX6_clearCommands 5 = .ok (.aload_n 0, 1) := dk_42 (dk_at dksX6_clearCommands_0 5 rfl rfl)
theorem dX6_clearCommands_6 : decode cX6_clearCommands 6 = .ok (.getfield 211, 3) := dk_180 0 211 (dk_at dksX6_clearCommands_0 6 rfl rfl)
theorem dX6_clearCommands_9 : decode cX6_clearCommands 9 = .ok (.istore_n 1, 1) := dk_60 (dk_at dksX6_clearCommands_0 9 rfl rfl)
theorem dX6_clearCommands_10 : decode cX6_clearCommands 10 = .ok (.aload_n 0, 1) := dk_42 (dk_at dksX6_clearCommands_0 10 rfl rfl)
theorem dX6_clearCommands_11 : decode cX6_clearCommands 11 = .ok (.iconst 0, 1) := dk_3 (dk_at dksX6_clearCommands_0 11 rfl rfl)
theorem dX6_clearCommands_12 : decode cX6_clearCommands 12 = .ok (.putfield 211, 3) := dk_181 0 211 (dk_at dksX6_clearCommands_0 12 rfl rfl)
theorem dX6_clearCommands_15 : decode cX6_clearCommands 15 = .ok (.iload_n 1, 1) := dk_27 (dk_at dksX6_clearCommands_0 15 rfl rfl)
theorem dX6_clearCommands_16 : decode cX6_clearCommands 16 = .ok (.ireturn, 1) := dk_172 (dk_at dksX6_clearCommands_0 16 rfl rfl)
/-! PageGardenModel.clearCommands()I -/
abbrev M_X6_clearCommands (z0 n0 : Nat) (s' : gS) : gM := (RX6, cX6_clearCommands, 2, (some FieldType.int), "clearCommands", [], 1, z0, n0, s'.2.1, s'.2.2)
abbrev W_X6_clearCommands (E : gE) (z0 n0 : Nat) (r : Int32) (s' : gS) (pc : Nat) (L : List (Nat × gV)) (st : List gV) (s : gS) : Prop := gW E (M_X6_clearCommands z0 n0 s') (gQm E (M_X6_clearCommands z0 n0 s') (.inl (some (vI r))) s') pc L st s
noncomputable def f_X6_clearCommands_0 (κ : gK) (F : Nat)  (l0 : Option Nat) (s : gS) : Option (Int32 × gS) :=
  gB1 (gpf κ s l0 9 6 (.int (0 : Int32))) fun s1 =>
  gB1 (gfI s1 l0 9 5) fun v2 =>
  gB1 (gpf κ s1 l0 9 5 (.int (0 : Int32))) fun s3 =>
  some (v2, s3)
set_option maxHeartbeats 4000000 in
theorem w_X6_clearCommands_0 {E : gE} {F z0 n0 : Nat} {r : Int32} {s' : gS}   : ∀ (l0 : Option Nat)  (s : gS), f_X6_clearCommands_0 (gk E) F  l0 s = some (r, s') → W_X6_clearCommands E z0 n0 r s' 0 [(0, vR l0)] [] s := by
  intro l0 s hB
  unfold f_X6_clearCommands_0 at hB
  refine gw_aload_n 0 rfl dX6_clearCommands_0 ?_
  refine gw_iconst (v := (0 : Int32)) (by decide) dX6_clearCommands_1 ?_
  obtain ⟨s1, hs1, hB⟩ := gB1_some hB
  refine gw_putf (C := RX6) (T := TX6) (N := 13) (k := 6) tyX6 tyX6_ok nmX6 gcl9 (by decide) in_X6 q2700 rfl (tyX6_ok 6 (by decide)) (gNF_i _) hs1 dX6_clearCommands_2 ?_
  refine gw_aload_n 0 rfl dX6_clearCommands_5 ?_
  obtain ⟨v2, hv2, hB⟩ := gB1_some hB
  refine gw_getf (C := RX6) (T := TX6) (N := 13) (k := 5) gcl9 (by decide) in_X6 q2699 (gfI_spec hv2) dX6_clearCommands_6 ?_
  refine gw_istore_n (L' := [(1, vI v2), (0, vR l0)]) (Nat.le_of_ble_eq_true rfl) rfl dX6_clearCommands_9 ?_
  refine gw_aload_n 1 rfl dX6_clearCommands_10 ?_
  refine gw_iconst (v := (0 : Int32)) (by decide) dX6_clearCommands_11 ?_
  obtain ⟨s3, hs3, hB⟩ := gB1_some hB
  refine gw_putf (C := RX6) (T := TX6) (N := 13) (k := 5) tyX6 tyX6_ok nmX6 gcl9 (by decide) in_X6 q2699 rfl (tyX6_ok 5 (by decide)) (gNF_i _) hs3 dX6_clearCommands_12 ?_
  refine gw_iload_n 0 rfl dX6_clearCommands_15 ?_
  obtain ⟨rfl, rfl⟩ := Prod.mk.inj (Option.some.inj hB)
  exact gw_iret rfl rfl rfl dX6_clearCommands_16
noncomputable def f_X6_clearCommands (κ : gK) (F : Nat) (a0 : Option Nat) (s : gS) : Option (Int32 × gS) := f_X6_clearCommands_0 κ F a0 s
theorem m_X6_clearCommands {E : gE} {F : Nat} (a0 : Option Nat) (s : gS) (r : Int32) (s' : gS) (h : f_X6_clearCommands (gk E) F a0 s = some (r, s')) : gCT E 1 yX6_clearCommands (ws_ yX6_clearCommands cX6_clearCommands 2 (some FieldType.int)) [vR a0] s (.inl (some (vI r))) s' := by
  refine gCT_of2 (fun h => absurd h (by decide)) (plainFor_of_name (by decide)) (Nat.le_of_ble_eq_true rfl) ?_
  exact gw_sub [0] rfl (w_X6_clearCommands_0 _ _ h)
def dkwX6_here_1 : List UInt8 := [172]
abbrev dktX6_here_1 : List UInt8 := dkwX6_here_1 ++ []
def dkwX6_here_0 : List UInt8 := [42, 180, 0, 220, 42, 180, 0, 211, 162, 0, 15, 42, 180, 0, 19, 42, 180, 0, 220, 46, 167, 0, 4, 2]
abbrev dktX6_here_0 : List UInt8 := dkwX6_here_0 ++ dktX6_here_1
theorem dksX6_here_0 : cX6_here.data.toList.drop 0 = dktX6_here_0 := by decide +kernel
theorem dksX6_here_1 : cX6_here.data.toList.drop 24 = dktX6_here_1 := dk_seg dksX6_here_0 24 rfl rfl
theorem dX6_here_0 : decode cX6_here 0 = .ok (.aload_n 0, 1) := dk_42 (dk_at dksX6_here_0 0 rfl rfl)
theorem dX6_here_1 : decode cX6_here 1 = .ok (.getfield 220, 3) := dk_180 0 220 (dk_at dksX6_here_0 1 rfl rfl)
theorem dX6_here_4 : decode cX6_here 4 = .ok (.aload_n 0, 1) := dk_42 (dk_at dksX6_here_0 4 rfl rfl)
theorem dX6_here_5 : decode cX6_here 5 = .ok (.getfield 211, 3) := dk_180 0 211 (dk_at dksX6_here_0 5 rfl rfl)
theorem dX6_here_8 : decode cX6_here 8 = .ok (.if_icmp .ge 15, 3) := dk_162 0 15 (dk_at dksX6_here_0 8 rfl rfl)
theorem dX6_here_11 : decode cX6_here 11 = .ok (.aload_n 0, 1) := dk_42 (dk_at dksX6_here_0 11 rfl rfl)
theorem dX6_here_12 : decode cX6_here 12 = .ok (.getfield 19, 3) := dk_180 0 19 (dk_at dksX6_here_0 12 rfl rfl)
theorem dX6_here_15 : decode cX6_here 15 = .ok (.aload_n 0, 1) := dk_42 (dk_at dksX6_here_0 15 rfl rfl)
theorem dX6_here_16 : decode cX6_here 16 = .ok (.getfield 220, 3) := dk_180 0 220 (dk_at dksX6_here_0 16 rfl rfl)
theorem dX6_here_19 : decode cX6_here 19 = .ok (.iaload, 1) := dk_46 (dk_at dksX6_here_0 19 rfl rfl)
theorem dX6_here_20 : decode cX6_here 20 = .ok (.goto 4, 3) := dk_167 0 4 (dk_at dksX6_here_0 20 rfl rfl)
theorem dX6_here_23 : decode cX6_here 23 = .ok (.iconst (-1), 1) := dk_2 (dk_at dksX6_here_0 23 rfl rfl)
theorem dX6_here_24 : decode cX6_here 24 = .ok (.ireturn, 1) := dk_172 (dk_at dksX6_here_1 0 rfl rfl)
/-! PageGardenModel.here()I -/
abbrev M_X6_here (z0 n0 : Nat) (s' : gS) : gM := (RX6, cX6_here, 1, (some FieldType.int), "here", [], 1, z0, n0, s'.2.1, s'.2.2)
abbrev W_X6_here (E : gE) (z0 n0 : Nat) (r : Int32) (s' : gS) (pc : Nat) (L : List (Nat × gV)) (st : List gV) (s : gS) : Prop := gW E (M_X6_here z0 n0 s') (gQm E (M_X6_here z0 n0 s') (.inl (some (vI r))) s') pc L st s
noncomputable def f_X6_here_24 (κ : gK) (F : Nat)  (t0 : Int32) (s : gS) : Option (Int32 × gS) :=
  some (t0, s)
set_option maxHeartbeats 4000000 in
theorem w_X6_here_24 {E : gE} {F z0 n0 : Nat} {r : Int32} {s' : gS}   : ∀  (t0 : Int32) (s : gS), f_X6_here_24 (gk E) F  t0 s = some (r, s') → W_X6_here E z0 n0 r s' 24 [] [vI t0] s := by
  intro t0 s hB
  unfold f_X6_here_24 at hB
  obtain ⟨rfl, rfl⟩ := Prod.mk.inj (Option.some.inj hB)
  exact gw_iret rfl rfl rfl dX6_here_24
noncomputable def f_X6_here_0 (κ : gK) (F : Nat)  (l0 : Option Nat) (s : gS) : Option (Int32 × gS) :=
  gB1 (gfI s l0 9 9) fun v1 =>
  gB1 (gfI s l0 9 5) fun v2 =>
  if v2 ≤ v1 then
    f_X6_here_24 κ F  (-1 : Int32) s
  else
    gB1 (gfR s l0 9 4) fun v3 =>
    gB1 (gfI s l0 9 9) fun v4 =>
    gB1 (gaI s v3 0 v4) fun v5 =>
    f_X6_here_24 κ F  v5 s
set_option maxHeartbeats 4000000 in
theorem w_X6_here_0 {E : gE} {F z0 n0 : Nat} {r : Int32} {s' : gS}   : ∀ (l0 : Option Nat)  (s : gS), f_X6_here_0 (gk E) F  l0 s = some (r, s') → W_X6_here E z0 n0 r s' 0 [(0, vR l0)] [] s := by
  intro l0 s hB
  unfold f_X6_here_0 at hB
  refine gw_aload_n 0 rfl dX6_here_0 ?_
  obtain ⟨v1, hv1, hB⟩ := gB1_some hB
  refine gw_getf (C := RX6) (T := TX6) (N := 13) (k := 9) gcl9 (by decide) in_X6 q2703 (gfI_spec hv1) dX6_here_1 ?_
  refine gw_aload_n 0 rfl dX6_here_4 ?_
  obtain ⟨v2, hv2, hB⟩ := gB1_some hB
  refine gw_getf (C := RX6) (T := TX6) (N := 13) (k := 5) gcl9 (by decide) in_X6 q2699 (gfI_spec hv2) dX6_here_5 ?_
  refine gw_icmp_ge (tgt := 23) dX6_here_8 (by decide) (fun hcnd => ?_) (fun hcnd => ?_)
  · rw [if_pos hcnd] at hB
    refine gw_iconst (v := (-1 : Int32)) (by decide) dX6_here_23 ?_
    exact gw_sub [] rfl (w_X6_here_24  _ _ hB)
  · rw [if_neg hcnd] at hB
    refine gw_aload_n 0 rfl dX6_here_11 ?_
    obtain ⟨v3, hv3, hB⟩ := gB1_some hB
    refine gw_getf (C := RX6) (T := TX6) (N := 13) (k := 4) gcl9 (by decide) in_X6 q2698 (gfR_spec hv3) dX6_here_12 ?_
    refine gw_aload_n 0 rfl dX6_here_15 ?_
    obtain ⟨v4, hv4, hB⟩ := gB1_some hB
    refine gw_getf (C := RX6) (T := TX6) (N := 13) (k := 9) gcl9 (by decide) in_X6 q2703 (gfI_spec hv4) dX6_here_16 ?_
    obtain ⟨v5, hv5, hB⟩ := gB1_some hB
    refine gw_iaload hv5 dX6_here_19 ?_
    refine gw_goto (tgt := 24) dX6_here_20 (by decide) ?_
    exact gw_sub [] rfl (w_X6_here_24  _ _ hB)
noncomputable def f_X6_here (κ : gK) (F : Nat) (a0 : Option Nat) (s : gS) : Option (Int32 × gS) := f_X6_here_0 κ F a0 s
theorem m_X6_here {E : gE} {F : Nat} (a0 : Option Nat) (s : gS) (r : Int32) (s' : gS) (h : f_X6_here (gk E) F a0 s = some (r, s')) : gCT E 1 yX6_here (ws_ yX6_here cX6_here 1 (some FieldType.int)) [vR a0] s (.inl (some (vI r))) s' := by
  refine gCT_of2 (fun h => absurd h (by decide)) (plainFor_of_name (by decide)) (Nat.le_of_ble_eq_true rfl) ?_
  exact gw_sub [0] rfl (w_X6_here_0 _ _ h)
def dkwX6_spaces_0 : List UInt8 := [42, 182, 0, 223, 16, 32, 160, 0, 16, 42, 89, 180, 0, 220, 4, 96, 181, 0, 220, 167, 255, 237, 177]
abbrev dktX6_spaces_0 : List UInt8 := dkwX6_spaces_0 ++ []
theorem dksX6_spaces_0 : cX6_spaces.data.toList.drop 0 = dktX6_spaces_0 := by decide +kernel
theorem dX6_spaces_0 : decode cX6_spaces 0 = .ok (.aload_n 0, 1) := dk_42 (dk_at dksX6_spaces_0 0 rfl rfl)
theorem dX6_spaces_1 : decode cX6_spaces 1 = .ok (.invokevirtual 223, 3) := dk_182 0 223 (dk_at dksX6_spaces_0 1 rfl rfl)
theorem dX6_spaces_4 : decode cX6_spaces 4 = .ok (.bipush 32, 2) := dk_16 32 (dk_at dksX6_spaces_0 4 rfl rfl)
theorem dX6_spaces_6 : decode cX6_spaces 6 = .ok (.if_icmp .ne 16, 3) := dk_160 0 16 (dk_at dksX6_spaces_0 6 rfl rfl)
theorem dX6_spaces_9 : decode cX6_spaces 9 = .ok (.aload_n 0, 1) := dk_42 (dk_at dksX6_spaces_0 9 rfl rfl)
theorem dX6_spaces_10 : decode cX6_spaces 10 = .ok (.dup, 1) := dk_89 (dk_at dksX6_spaces_0 10 rfl rfl)
theorem dX6_spaces_11 : decode cX6_spaces 11 = .ok (.getfield 220, 3) := dk_180 0 220 (dk_at dksX6_spaces_0 11 rfl rfl)
theorem dX6_spaces_14 : decode cX6_spaces 14 = .ok (.iconst 1, 1) := dk_4 (dk_at dksX6_spaces_0 14 rfl rfl)
theorem dX6_spaces_15 : decode cX6_spaces 15 = .ok (.iadd, 1) := dk_96 (dk_at dksX6_spaces_0 15 rfl rfl)
theorem dX6_spaces_16 : decode cX6_spaces 16 = .ok (.putfield 220, 3) := dk_181 0 220 (dk_at dksX6_spaces_0 16 rfl rfl)
theorem dX6_spaces_19 : decode cX6_spaces 19 = .ok (.goto (-19), 3) := dk_167 255 237 (dk_at dksX6_spaces_0 19 rfl rfl)
theorem dX6_spaces_22 : decode cX6_spaces 22 = .ok (.return_, 1) := dk_177 (dk_at dksX6_spaces_0 22 rfl rfl)
/-! PageGardenModel.spaces()V -/
abbrev M_X6_spaces (z0 n0 : Nat) (s' : gS) : gM := (RX6, cX6_spaces, 1, none, "spaces", [], 2, z0, n0, s'.2.1, s'.2.2)
abbrev W_X6_spaces (E : gE) (z0 n0 : Nat) (r : Unit) (s' : gS) (pc : Nat) (L : List (Nat × gV)) (st : List gV) (s : gS) : Prop := gW E (M_X6_spaces z0 n0 s') (gQm E (M_X6_spaces z0 n0 s') (.inl none) s') pc L st s
noncomputable def f_X6_spaces_0b (κ : gK) (F : Nat) (k0 : Option Nat → gS → Option (Unit × gS)) (l0 : Option Nat) (s : gS) : Option (Unit × gS) :=
  gB1 (gck s l0 9) fun _ =>
  gB2 (f_X6_here κ F l0  s) fun v2 s1 =>
  if v2 = (32 : Int32) then
    gB1 (gfI s1 l0 9 9) fun v4 =>
    gB1 (gpf κ s1 l0 9 9 (.int (v4 + (1 : Int32)))) fun s5 =>
    k0 l0 s5
  else
    some ((), s1)
noncomputable def f_X6_spaces_0 (κ : gK) (F : Nat)  : Nat → Option Nat → gS → Option (Unit × gS)
  | 0 => fun _ _ => none
  | n + 1 => f_X6_spaces_0b κ F  (f_X6_spaces_0 κ F  n)
set_option maxHeartbeats 4000000 in
theorem w_X6_spaces_0b {E : gE} {F z0 n0 : Nat} {r : Unit} {s' : gS} {k0 : Option Nat → gS → Option (Unit × gS)} (hk0 : ∀ (l0 : Option Nat) (s : gS), k0 l0 s = some (r, s') → W_X6_spaces E z0 n0 r s' 0 [(0, vR l0)] [] s) : ∀ (l0 : Option Nat)  (s : gS), f_X6_spaces_0b (gk E) F k0 l0 s = some (r, s') → W_X6_spaces E z0 n0 r s' 0 [(0, vR l0)] [] s := by
  intro l0 s hB
  unfold f_X6_spaces_0b at hB
  refine gw_aload_n 0 rfl dX6_spaces_0 ?_
  obtain ⟨u0, hu3, hB⟩ := gB1_some hB
  obtain ⟨v2, s1, hv2, hB⟩ := gB2_some hB
  refine gw_callV (y := yX6_here) (lw_V q3054 q3056 qs100 q143 q3057) hdV_X6_here gcl9 hu3 (As := []) (rest := []) (m_X6_here _ _ _ _ hv2) (Nat.le_of_ble_eq_true rfl) (Nat.le_of_ble_eq_true rfl) rfl (Nat.le_of_ble_eq_true rfl) dX6_spaces_1 (gCont_i ?_)
  refine gw_bipush (v := (32 : Int32)) (by decide) dX6_spaces_4 ?_
  refine gw_icmp_ne (tgt := 22) dX6_spaces_6 (by decide) (fun hcnd => ?_) (fun hcnd => ?_)
  · rw [if_neg hcnd] at hB
    obtain ⟨rfl, rfl⟩ := Prod.mk.inj (Option.some.inj hB)
    exact gw_vret rfl rfl rfl dX6_spaces_22
  · rw [if_pos hcnd] at hB
    refine gw_aload_n 0 rfl dX6_spaces_9 ?_
    refine gw_dup rfl dX6_spaces_10 ?_
    obtain ⟨v4, hv4, hB⟩ := gB1_some hB
    refine gw_getf (C := RX6) (T := TX6) (N := 13) (k := 9) gcl9 (by decide) in_X6 q2703 (gfI_spec hv4) dX6_spaces_11 ?_
    refine gw_iconst (v := (1 : Int32)) (by decide) dX6_spaces_14 ?_
    refine gw_iadd dX6_spaces_15 ?_
    obtain ⟨s5, hs5, hB⟩ := gB1_some hB
    refine gw_putf (C := RX6) (T := TX6) (N := 13) (k := 9) tyX6 tyX6_ok nmX6 gcl9 (by decide) in_X6 q2703 rfl (tyX6_ok 9 (by decide)) (gNF_i _) hs5 dX6_spaces_16 ?_
    refine gw_goto (tgt := 0) dX6_spaces_19 (by decide) ?_
    exact gw_sub [0] rfl (hk0 _ _ hB)
theorem w_X6_spaces_0 {E : gE} {F z0 n0 : Nat} {r : Unit} {s' : gS}   : ∀ (n : Nat) (l0 : Option Nat)  (s : gS), f_X6_spaces_0 (gk E) F  n l0 s = some (r, s') → W_X6_spaces E z0 n0 r s' 0 [(0, vR l0)] [] s := by
  intro n
  induction n with
  | zero => intro l0 s hB; cases hB
  | succ n ih => intro l0 s hB; exact w_X6_spaces_0b ih l0 s hB
noncomputable def f_X6_spaces (κ : gK) (F : Nat) (a0 : Option Nat) (s : gS) : Option (Unit × gS) := f_X6_spaces_0 κ F F a0 s
theorem m_X6_spaces {E : gE} {F : Nat} (a0 : Option Nat) (s : gS) (r : Unit) (s' : gS) (h : f_X6_spaces (gk E) F a0 s = some (r, s')) : gCT E 2 yX6_spaces (ws_ yX6_spaces cX6_spaces 1 none) [vR a0] s (.inl none) s' := by
  refine gCT_of2 (fun h => absurd h (by decide)) (plainFor_of_name (by decide)) (Nat.le_of_ble_eq_true rfl) ?_
  exact gw_sub [0] rfl (w_X6_spaces_0 F _ _ h)
def dkwX6_meaning_3 : List UInt8 := [167, 0, 17, 30, 20, 0, 238, 148, 154, 0, 8, 16, 7, 167, 0, 4, 3, 172]
abbrev dktX6_meaning_3 : List UInt8 := dkwX6_meaning_3 ++ []
def dkwX6_meaning_2 : List UInt8 := [30, 20, 0, 234, 148, 154, 0, 7, 8, 167, 0, 30, 30, 20, 0, 236, 148, 154, 0, 8, 16, 6]
abbrev dktX6_meaning_2 : List UInt8 := dkwX6_meaning_2 ++ dktX6_meaning_3
def dkwX6_meaning_1 : List UInt8 := [30, 20, 0, 230, 148, 154, 0, 7, 6, 167, 0, 54, 30, 20, 0, 232, 148, 154, 0, 7, 7, 167, 0, 42]
abbrev dktX6_meaning_1 : List UInt8 := dkwX6_meaning_1 ++ dktX6_meaning_2
def dkwX6_meaning_0 : List UInt8 := [30, 20, 0, 226, 148, 154, 0, 7, 4, 167, 0, 78, 30, 20, 0, 228, 148, 154, 0, 7, 5, 167, 0, 66]
abbrev dktX6_meaning_0 : List UInt8 := dkwX6_meaning_0 ++ dktX6_meaning_1
theorem dksX6_meaning_0 : cX6_meaning.data.toList.drop 0 = dktX6_meaning_0 := by decide +kernel
theorem dksX6_meaning_1 : cX6_meaning.data.toList.drop 24 = dktX6_meaning_1 := dk_seg dksX6_meaning_0 24 rfl rfl
theorem dksX6_meaning_2 : cX6_meaning.data.toList.drop 48 = dktX6_meaning_2 := dk_seg dksX6_meaning_1 24 rfl rfl
theorem dksX6_meaning_3 : cX6_meaning.data.toList.drop 70 = dktX6_meaning_3 := dk_seg dksX6_meaning_2 22 rfl rfl
theorem dX6_meaning_0 : decode cX6_meaning 0 = .ok (.lload_n 0, 1) := dk_30 (dk_at dksX6_meaning_0 0 rfl rfl)
theorem dX6_meaning_1 : decode cX6_meaning 1 = .ok (.ldc2_w 226, 3) := dk_20 0 226 (dk_at dksX6_meaning_0 1 rfl rfl)
theorem dX6_meaning_4 : decode cX6_meaning 4 = .ok (.lcmp, 1) := dk_148 (dk_at dksX6_meaning_0 4 rfl rfl)
theorem dX6_meaning_5 : decode cX6_meaning 5 = .ok (.ifCond .ne 7, 3) := dk_154 0 7 (dk_at dksX6_meaning_0 5 rfl rfl)
theorem dX6_meaning_8 : decode cX6_meaning 8 = .ok (.iconst 1, 1) := dk_4 (dk_at dksX6_meaning_0 8 rfl rfl)
theorem dX6_meaning_9 : decode cX6_meaning 9 = .ok (.goto 78, 3) := dk_167 0 78 (dk_at dksX6_meaning_0 9 rfl rfl)
theorem dX6_meaning_12 : decode cX6_meaning 12 = .ok (.lload_n 0, 1) := dk_30 (dk_at dksX6_meaning_0 12 rfl rfl)
theorem dX6_meaning_13 : decode cX6_meaning 13 = .ok (.ldc2_w 228, 3) := dk_20 0 228 (dk_at dksX6_meaning_0 13 rfl rfl)
theorem dX6_meaning_16 : decode cX6_meaning 16 = .ok (.lcmp, 1) := dk_148 (dk_at dksX6_meaning_0 16 rfl rfl)
theorem dX6_meaning_17 : decode cX6_meaning 17 = .ok (.ifCond .ne 7, 3) := dk_154 0 7 (dk_at dksX6_meaning_0 17 rfl rfl)
theorem dX6_meaning_20 : decode cX6_meaning 20 = .ok (.iconst 2, 1) := dk_5 (dk_at dksX6_meaning_0 20 rfl rfl)
theorem dX6_meaning_21 : decode cX6_meaning 21 = .ok (.goto 66, 3) := dk_167 0 66 (dk_at dksX6_meaning_0 21 rfl rfl)
theorem dX6_meaning_24 : decode cX6_meaning 24 = .ok (.lload_n 0, 1) := dk_30 (dk_at dksX6_meaning_1 0 rfl rfl)
theorem dX6_meaning_25 : decode cX6_meaning 25 = .ok (.ldc2_w 230, 3) := dk_20 0 230 (dk_at dksX6_meaning_1 1 rfl rfl)
theorem dX6_meaning_28 : decode cX6_meaning 28 = .ok (.lcmp, 1) := dk_148 (dk_at dksX6_meaning_1 4 rfl rfl)
theorem dX6_meaning_29 : decode cX6_meaning 29 = .ok (.ifCond .ne 7, 3) := dk_154 0 7 (dk_at dksX6_meaning_1 5 rfl rfl)
theorem dX6_meaning_32 : decode cX6_meaning 32 = .ok (.iconst 3, 1) := dk_6 (dk_at dksX6_meaning_1 8 rfl rfl)
theorem dX6_meaning_33 : decode cX6_meaning 33 = .ok (.goto 54, 3) := dk_167 0 54 (dk_at dksX6_meaning_1 9 rfl rfl)
theorem dX6_meaning_36 : decode cX6_meaning 36 = .ok (.lload_n 0, 1) := dk_30 (dk_at dksX6_meaning_1 12 rfl rfl)
theorem dX6_meaning_37 : decode cX6_meaning 37 = .ok (.ldc2_w 232, 3) := dk_20 0 232 (dk_at dksX6_meaning_1 13 rfl rfl)
theorem dX6_meaning_40 : decode cX6_meaning 40 = .ok (.lcmp, 1) := dk_148 (dk_at dksX6_meaning_1 16 rfl rfl)
theorem dX6_meaning_41 : decode cX6_meaning 41 = .ok (.ifCond .ne 7, 3) := dk_154 0 7 (dk_at dksX6_meaning_1 17 rfl rfl)
theorem dX6_meaning_44 : decode cX6_meaning 44 = .ok (.iconst 4, 1) := dk_7 (dk_at dksX6_meaning_1 20 rfl rfl)
theorem dX6_meaning_45 : decode cX6_meaning 45 = .ok (.goto 42, 3) := dk_167 0 42 (dk_at dksX6_meaning_1 21 rfl rfl)
theorem dX6_meaning_48 : decode cX6_meaning 48 = .ok (.lload_n 0, 1) := dk_30 (dk_at dksX6_meaning_2 0 rfl rfl)
theorem dX6_meaning_49 : decode cX6_meaning 49 = .ok (.ldc2_w 234, 3) := dk_20 0 234 (dk_at dksX6_meaning_2 1 rfl rfl)
theorem dX6_meaning_52 : decode cX6_meaning 52 = .ok (.lcmp, 1) := dk_148 (dk_at dksX6_meaning_2 4 rfl rfl)
theorem dX6_meaning_53 : decode cX6_meaning 53 = .ok (.ifCond .ne 7, 3) := dk_154 0 7 (dk_at dksX6_meaning_2 5 rfl rfl)
theorem dX6_meaning_56 : decode cX6_meaning 56 = .ok (.iconst 5, 1) := dk_8 (dk_at dksX6_meaning_2 8 rfl rfl)
theorem dX6_meaning_57 : decode cX6_meaning 57 = .ok (.goto 30, 3) := dk_167 0 30 (dk_at dksX6_meaning_2 9 rfl rfl)
theorem dX6_meaning_60 : decode cX6_meaning 60 = .ok (.lload_n 0, 1) := dk_30 (dk_at dksX6_meaning_2 12 rfl rfl)
theorem dX6_meaning_61 : decode cX6_meaning 61 = .ok (.ldc2_w 236, 3) := dk_20 0 236 (dk_at dksX6_meaning_2 13 rfl rfl)
theorem dX6_meaning_64 : decode cX6_meaning 64 = .ok (.lcmp, 1) := dk_148 (dk_at dksX6_meaning_2 16 rfl rfl)
theorem dX6_meaning_65 : decode cX6_meaning 65 = .ok (.ifCond .ne 8, 3) := dk_154 0 8 (dk_at dksX6_meaning_2 17 rfl rfl)
theorem dX6_meaning_68 : decode cX6_meaning 68 = .ok (.bipush 6, 2) := dk_16 6 (dk_at dksX6_meaning_2 20 rfl rfl)
theorem dX6_meaning_70 : decode cX6_meaning 70 = .ok (.goto 17, 3) := dk_167 0 17 (dk_at dksX6_meaning_3 0 rfl rfl)
theorem dX6_meaning_73 : decode cX6_meaning 73 = .ok (.lload_n 0, 1) := dk_30 (dk_at dksX6_meaning_3 3 rfl rfl)
theorem dX6_meaning_74 : decode cX6_meaning 74 = .ok (.ldc2_w 238, 3) := dk_20 0 238 (dk_at dksX6_meaning_3 4 rfl rfl)
theorem dX6_meaning_77 : decode cX6_meaning 77 = .ok (.lcmp, 1) := dk_148 (dk_at dksX6_meaning_3 7 rfl rfl)
theorem dX6_meaning_78 : decode cX6_meaning 78 = .ok (.ifCond .ne 8, 3) := dk_154 0 8 (dk_at dksX6_meaning_3 8 rfl rfl)
theorem dX6_meaning_81 : decode cX6_meaning 81 = .ok (.bipush 7, 2) := dk_16 7 (dk_at dksX6_meaning_3 11 rfl rfl)
theorem dX6_meaning_83 : decode cX6_meaning 83 = .ok (.goto 4, 3) := dk_167 0 4 (dk_at dksX6_meaning_3 13 rfl rfl)
theorem dX6_meaning_86 : decode cX6_meaning 86 = .ok (.iconst 0, 1) := dk_3 (dk_at dksX6_meaning_3 16 rfl rfl)
theorem dX6_meaning_87 : decode cX6_meaning 87 = .ok (.ireturn, 1) := dk_172 (dk_at dksX6_meaning_3 17 rfl rfl)
/-! PageGardenModel.meaning(J)I -/
abbrev M_X6_meaning (z0 n0 : Nat) (s' : gS) : gM := (RX6, cX6_meaning, 2, (some FieldType.int), "meaning", [], 1, z0, n0, s'.2.1, s'.2.2)
abbrev W_X6_meaning (E : gE) (z0 n0 : Nat) (r : Int32) (s' : gS) (pc : Nat) (L : List (Nat × gV)) (st : List gV) (s : gS) : Prop := gW E (M_X6_meaning z0 n0 s') (gQm E (M_X6_meaning z0 n0 s') (.inl (some (vI r))) s') pc L st s
noncomputable def f_X6_meaning_87 (κ : gK) (F : Nat)  (t0 : Int32) (s : gS) : Option (Int32 × gS) :=
  some (t0, s)
set_option maxHeartbeats 4000000 in
theorem w_X6_meaning_87 {E : gE} {F z0 n0 : Nat} {r : Int32} {s' : gS}   : ∀  (t0 : Int32) (s : gS), f_X6_meaning_87 (gk E) F  t0 s = some (r, s') → W_X6_meaning E z0 n0 r s' 87 [] [vI t0] s := by
  intro t0 s hB
  unfold f_X6_meaning_87 at hB
  obtain ⟨rfl, rfl⟩ := Prod.mk.inj (Option.some.inj hB)
  exact gw_iret rfl rfl rfl dX6_meaning_87
noncomputable def f_X6_meaning_0 (κ : gK) (F : Nat)  (l0 : Int64) (s : gS) : Option (Int32 × gS) :=
  if (lg_cmp l0 (2268462 : Int64)) = 0 then
    f_X6_meaning_87 κ F  (1 : Int32) s
  else
    if (lg_cmp l0 (17076 : Int64)) = 0 then
      f_X6_meaning_87 κ F  (2 : Int32) s
    else
      if (lg_cmp l0 (150000 : Int64)) = 0 then
        f_X6_meaning_87 κ F  (3 : Int32) s
      else
        if (lg_cmp l0 (116831540 : Int64)) = 0 then
          f_X6_meaning_87 κ F  (4 : Int32) s
        else
          if (lg_cmp l0 (1130068 : Int64)) = 0 then
            f_X6_meaning_87 κ F  (5 : Int32) s
          else
            if (lg_cmp l0 (508078 : Int64)) = 0 then
              f_X6_meaning_87 κ F  (6 : Int32) s
            else
              if (lg_cmp l0 (3554917 : Int64)) = 0 then
                f_X6_meaning_87 κ F  (7 : Int32) s
              else
                f_X6_meaning_87 κ F  (0 : Int32) s
set_option maxHeartbeats 4000000 in
theorem w_X6_meaning_0 {E : gE} {F z0 n0 : Nat} {r : Int32} {s' : gS}   : ∀ (l0 : Int64)  (s : gS), f_X6_meaning_0 (gk E) F  l0 s = some (r, s') → W_X6_meaning E z0 n0 r s' 0 [(0, vJ l0)] [] s := by
  intro l0 s hB
  unfold f_X6_meaning_0 at hB
  refine gw_lload_n 0 rfl dX6_meaning_0 ?_
  refine gw_ldc2 (2268462 : Int64) q3071 dX6_meaning_1 ?_
  refine gw_lcmp dX6_meaning_4 ?_
  refine gw_if_ne (tgt := 12) dX6_meaning_5 (by decide) (fun hcnd => ?_) (fun hcnd => ?_)
  · rw [if_neg hcnd] at hB
    refine gw_lload_n 0 rfl dX6_meaning_12 ?_
    refine gw_ldc2 (17076 : Int64) q3072 dX6_meaning_13 ?_
    refine gw_lcmp dX6_meaning_16 ?_
    refine gw_if_ne (tgt := 24) dX6_meaning_17 (by decide) (fun hcnd => ?_) (fun hcnd => ?_)
    · rw [if_neg hcnd] at hB
      refine gw_lload_n 0 rfl dX6_meaning_24 ?_
      refine gw_ldc2 (150000 : Int64) q3073 dX6_meaning_25 ?_
      refine gw_lcmp dX6_meaning_28 ?_
      refine gw_if_ne (tgt := 36) dX6_meaning_29 (by decide) (fun hcnd => ?_) (fun hcnd => ?_)
      · rw [if_neg hcnd] at hB
        refine gw_lload_n 0 rfl dX6_meaning_36 ?_
        refine gw_ldc2 (116831540 : Int64) q3074 dX6_meaning_37 ?_
        refine gw_lcmp dX6_meaning_40 ?_
        refine gw_if_ne (tgt := 48) dX6_meaning_41 (by decide) (fun hcnd => ?_) (fun hcnd => ?_)
        · rw [if_neg hcnd] at hB
          refine gw_lload_n 0 rfl dX6_meaning_48 ?_
          refine gw_ldc2 (1130068 : Int64) q3075 dX6_meaning_49 ?_
          refine gw_lcmp dX6_meaning_52 ?_
          refine gw_if_ne (tgt := 60) dX6_meaning_53 (by decide) (fun hcnd => ?_) (fun hcnd => ?_)
          · rw [if_neg hcnd] at hB
            refine gw_lload_n 0 rfl dX6_meaning_60 ?_
            refine gw_ldc2 (508078 : Int64) q3076 dX6_meaning_61 ?_
            refine gw_lcmp dX6_meaning_64 ?_
            refine gw_if_ne (tgt := 73) dX6_meaning_65 (by decide) (fun hcnd => ?_) (fun hcnd => ?_)
            · rw [if_neg hcnd] at hB
              refine gw_lload_n 0 rfl dX6_meaning_73 ?_
              refine gw_ldc2 (3554917 : Int64) q3077 dX6_meaning_74 ?_
              refine gw_lcmp dX6_meaning_77 ?_
              refine gw_if_ne (tgt := 86) dX6_meaning_78 (by decide) (fun hcnd => ?_) (fun hcnd => ?_)
              · rw [if_neg hcnd] at hB
                refine gw_iconst (v := (0 : Int32)) (by decide) dX6_meaning_86 ?_
                exact gw_sub [] rfl (w_X6_meaning_87  _ _ hB)
              · rw [if_pos hcnd] at hB
                refine gw_bipush (v := (7 : Int32)) (by decide) dX6_meaning_81 ?_
                refine gw_goto (tgt := 87) dX6_meaning_83 (by decide) ?_
                exact gw_sub [] rfl (w_X6_meaning_87  _ _ hB)
            · rw [if_pos hcnd] at hB
              refine gw_bipush (v := (6 : Int32)) (by decide) dX6_meaning_68 ?_
              refine gw_goto (tgt := 87) dX6_meaning_70 (by decide) ?_
              exact gw_sub [] rfl (w_X6_meaning_87  _ _ hB)
          · rw [if_pos hcnd] at hB
            refine gw_iconst (v := (5 : Int32)) (by decide) dX6_meaning_56 ?_
            refine gw_goto (tgt := 87) dX6_meaning_57 (by decide) ?_
            exact gw_sub [] rfl (w_X6_meaning_87  _ _ hB)
        · rw [if_pos hcnd] at hB
          refine gw_iconst (v := (4 : Int32)) (by decide) dX6_meaning_44 ?_
          refine gw_goto (tgt := 87) dX6_meaning_45 (by decide) ?_
          exact gw_sub [] rfl (w_X6_meaning_87  _ _ hB)
      · rw [if_pos hcnd] at hB
        refine gw_iconst (v := (3 : Int32)) (by decide) dX6_meaning_32 ?_
        refine gw_goto (tgt := 87) dX6_meaning_33 (by decide) ?_
        exact gw_sub [] rfl (w_X6_meaning_87  _ _ hB)
    · rw [if_pos hcnd] at hB
      refine gw_iconst (v := (2 : Int32)) (by decide) dX6_meaning_20 ?_
      refine gw_goto (tgt := 87) dX6_meaning_21 (by decide) ?_
      exact gw_sub [] rfl (w_X6_meaning_87  _ _ hB)
  · rw [if_pos hcnd] at hB
    refine gw_iconst (v := (1 : Int32)) (by decide) dX6_meaning_8 ?_
    refine gw_goto (tgt := 87) dX6_meaning_9 (by decide) ?_
    exact gw_sub [] rfl (w_X6_meaning_87  _ _ hB)
noncomputable def f_X6_meaning (κ : gK) (F : Nat) (a1 : Int64) (s : gS) : Option (Int32 × gS) := f_X6_meaning_0 κ F a1 s
theorem m_X6_meaning {E : gE} {F : Nat} (a1 : Int64) (s : gS) (r : Int32) (s' : gS) (h : f_X6_meaning (gk E) F a1 s = some (r, s')) : gCT E 1 yX6_meaning (ws_ yX6_meaning cX6_meaning 2 (some FieldType.int)) [vJ a1] s (.inl (some (vI r))) s' := by
  refine gCT_of2 (fun h => absurd h (by decide)) (plainFor_of_name (by decide)) (Nat.le_of_ble_eq_true rfl) ?_
  exact gw_sub [0] rfl (w_X6_meaning_0 _ _ h)
def dkwX6_readWord_4 : List UInt8 := [180, 0, 248, 153, 0, 7, 4, 167, 0, 4, 3, 172]
abbrev dktX6_readWord_4 : List UInt8 := dkwX6_readWord_4 ++ []
def dkwX6_readWord_3 : List UInt8 := [181, 0, 248, 42, 42, 180, 0, 248, 154, 0, 7, 27, 167, 0, 7, 42, 180, 0, 220, 181, 0, 220, 42]
abbrev dktX6_readWord_3 : List UInt8 := dkwX6_readWord_3 ++ dktX6_readWord_4
def dkwX6_readWord_2 : List UInt8 := [101, 167, 0, 4, 9, 65, 42, 89, 180, 0, 220, 4, 96, 181, 0, 220, 167, 255, 201, 42, 32, 184, 0, 244]
abbrev dktX6_readWord_2 : List UInt8 := dkwX6_readWord_2 ++ dktX6_readWord_3
def dkwX6_readWord_1 : List UInt8 := [180, 0, 220, 27, 16, 6, 96, 162, 0, 21, 20, 0, 240, 32, 105, 42, 182, 0, 223, 133, 97, 20, 0, 242]
abbrev dktX6_readWord_1 : List UInt8 := dkwX6_readWord_1 ++ dktX6_readWord_2
def dkwX6_readWord_0 : List UInt8 := [42, 180, 0, 220, 60, 9, 65, 42, 182, 0, 223, 16, 97, 16, 122, 184, 0, 113, 153, 0, 47, 42]
abbrev dktX6_readWord_0 : List UInt8 := dkwX6_readWord_0 ++ dktX6_readWord_1
theorem dksX6_readWord_0 : cX6_readWord.data.toList.drop 0 = dktX6_readWord_0 := by decide +kernel
theorem dksX6_readWord_1 : cX6_readWord.data.toList.drop 22 = dktX6_readWord_1 := dk_seg dksX6_readWord_0 22 rfl rfl
theorem dksX6_readWord_2 : cX6_readWord.data.toList.drop 46 = dktX6_readWord_2 := dk_seg dksX6_readWord_1 24 rfl rfl
theorem dksX6_readWord_3 : cX6_readWord.data.toList.drop 70 = dktX6_readWord_3 := dk_seg dksX6_readWord_2 24 rfl rfl
theorem dksX6_readWord_4 : cX6_readWord.data.toList.drop 93 = dktX6_readWord_4 := dk_seg dksX6_readWord_3 23 rfl rfl
theorem dX6_readWord_0 : decode cX6_readWord 0 = .ok (.aload_n 0, 1) := dk_42 (dk_at dksX6_readWord_0 0 rfl rfl)
theorem dX6_readWord_1 : decode cX6_readWord 1 = .ok (.getfield 220, 3) := dk_180 0 220 (dk_at dksX6_readWord_0 1 rfl rfl)
theorem dX6_readWord_4 : decode cX6_readWord 4 = .ok (.istore_n 1, 1) := dk_60 (dk_at dksX6_readWord_0 4 rfl rfl)
theorem dX6_readWord_5 : decode cX6_readWord 5 = .ok (.lconst 0, 1) := dk_9 (dk_at dksX6_readWord_0 5 rfl rfl)
theorem dX6_readWord_6 : decode cX6_readWord 6 = .ok (.lstore_n 2, 1) := dk_65 (dk_at dksX6_readWord_0 6 rfl rfl)
theorem dX6_readWord_7 : decode cX6_readWord 7 = .ok (.aload_n 0, 1) := dk_42 (dk_at dksX6_readWord_0 7 rfl rfl)
theorem dX6_readWord_8 : decode cX6_readWord 8 = .ok (.invokevirtual 223, 3) := dk_182 0 223 (dk_at dksX6_readWord_0 8 rfl rfl)
theorem dX6_readWord_11 : decode cX6_readWord 11 = .ok (.bipush 97, 2) := dk_16 97 (dk_at dksX6_readWord_0 11 rfl rfl)
theorem dX6_readWord_13 : decode cX6_readWord 13 = .ok (.bipush 122, 2) := dk_16 122 (dk_at dksX6_readWord_0 13 rfl rfl)
theorem dX6_readWord_15 : decode cX6_readWord 15 = .ok (.invokestatic 113, 3) := dk_184 0 113 (dk_at dksX6_readWord_0 15 rfl rfl)
theorem dX6_readWord_18 : decode cX6_readWord 18 = .ok (.ifCond .eq 47, 3) := dk_153 0 47 (dk_at dksX6_readWord_0 18 rfl rfl)
theorem dX6_readWord_21 : decode cX6_readWord 21 = .ok (.aload_n 0, 1) := dk_42 (dk_at dksX6_readWord_0 21 rfl rfl)
theorem dX6_readWord_22 : decode cX6_readWord 22 = .ok (.getfield 220, 3) := dk_180 0 220 (dk_at dksX6_readWord_1 0 rfl rfl)
theorem dX6_readWord_25 : decode cX6_readWord 25 = .ok (.iload_n 1, 1) := dk_27 (dk_at dksX6_readWord_1 3 rfl rfl)
theorem dX6_readWord_26 : decode cX6_readWord 26 = .ok (.bipush 6, 2) := dk_16 6 (dk_at dksX6_readWord_1 4 rfl rfl)
theorem dX6_readWord_28 : decode cX6_readWord 28 = .ok (.iadd, 1) := dk_96 (dk_at dksX6_readWord_1 6 rfl rfl)
theorem dX6_readWord_29 : decode cX6_readWord 29 = .ok (.if_icmp .ge 21, 3) := dk_162 0 21 (dk_at dksX6_readWord_1 7 rfl rfl)
theorem dX6_readWord_32 : decode cX6_readWord 32 = .ok (.ldc2_w 240, 3) := dk_20 0 240 (dk_at dksX6_readWord_1 10 rfl rfl)
theorem dX6_readWord_35 : decode cX6_readWord 35 = .ok (.lload_n 2, 1) := dk_32 (dk_at dksX6_readWord_1 13 rfl rfl)
theorem dX6_readWord_36 : decode cX6_readWord 36 = .ok (.lmul, 1) := dk_105 (dk_at dksX6_readWord_1 14 rfl rfl)
theorem dX6_readWord_37 : decode cX6_readWord 37 = .ok (.aload_n 0, 1) := dk_42 (dk_at dksX6_readWord_1 15 rfl rfl)
theorem dX6_readWord_38 : decode cX6_readWord 38 = .ok (.invokevirtual 223, 3) := dk_182 0 223 (dk_at dksX6_readWord_1 16 rfl rfl)
theorem dX6_readWord_41 : decode cX6_readWord 41 = .ok (.i2l, 1) := dk_133 (dk_at dksX6_readWord_1 19 rfl rfl)
theorem dX6_readWord_42 : decode cX6_readWord 42 = .ok (.ladd, 1) := dk_97 (dk_at dksX6_readWord_1 20 rfl rfl)
theorem dX6_readWord_43 : decode cX6_readWord 43 = .ok (.ldc2_w 242, 3) := dk_20 0 242 (dk_at dksX6_readWord_1 21 rfl rfl)
theorem dX6_readWord_46 : decode cX6_readWord 46 = .ok (.lsub, 1) := dk_101 (dk_at dksX6_readWord_2 0 rfl rfl)
theorem dX6_readWord_47 : decode cX6_readWord 47 = .ok (.goto 4, 3) := dk_167 0 4 (dk_at dksX6_readWord_2 1 rfl rfl)
theorem dX6_readWord_50 : decode cX6_readWord 50 = .ok (.lconst 0, 1) := dk_9 (dk_at dksX6_readWord_2 4 rfl rfl)
theorem dX6_readWord_51 : decode cX6_readWord 51 = .ok (.lstore_n 2, 1) := dk_65 (dk_at dksX6_readWord_2 5 rfl rfl)
theorem dX6_readWord_52 : decode cX6_readWord 52 = .ok (.aload_n 0, 1) := dk_42 (dk_at dksX6_readWord_2 6 rfl rfl)
theorem dX6_readWord_53 : decode cX6_readWord 53 = .ok (.dup, 1) := dk_89 (dk_at dksX6_readWord_2 7 rfl rfl)
theorem dX6_readWord_54 : decode cX6_readWord 54 = .ok (.getfield 220, 3) := dk_180 0 220 (dk_at dksX6_readWord_2 8 rfl rfl)
theorem dX6_readWord_57 : decode cX6_readWord 57 = .ok (.iconst 1, 1) := dk_4 (dk_at dksX6_readWord_2 11 rfl rfl)
theorem dX6_readWord_58 : decode cX6_readWord 58 = .ok (.iadd, 1) := dk_96 (dk_at dksX6_readWord_2 12 rfl rfl)
theorem dX6_readWord_59 : decode cX6_readWord 59 = .ok (.putfield 220, 3) := dk_181 0 220 (dk_at dksX6_readWord_2 13 rfl rfl)
theorem dX6_readWord_62 : decode cX6_readWord 62 = .ok (.goto (-55), 3) := dk_167 255 201 (dk_at dksX6_readWord_2 16 rfl rfl)
theorem dX6_readWord_65 : decode cX6_readWord 65 = .ok (.aload_n 0, 1) := dk_42 (dk_at dksX6_readWord_2 19 rfl rfl)
theorem dX6_readWord_66 : decode cX6_readWord 66 = .ok (.lload_n 2, 1) := dk_32 (dk_at dksX6_readWord_2 20 rfl rfl)
theorem dX6_readWord_67 : decode cX6_readWord 67 = .ok (.invokestatic 244, 3) := dk_184 0 244 (dk_at dksX6_readWord_2 21 rfl rfl)
theorem dX6_readWord_70 : decode cX6_readWord 70 = .ok (.putfield 248, 3) := dk_181 0 248 (dk_at dksX6_readWord_3 0 rfl rfl)
theorem dX6_readWord_73 : decode cX6_readWord 73 = .ok (.aload_n 0, 1) := dk_42 (dk_at dksX6_readWord_3 3 rfl rfl)
theorem dX6_readWord_74 : decode cX6_readWord 74 = .ok (.aload_n 0, 1) := dk_42 (dk_at dksX6_readWord_3 4 rfl rfl)
theorem dX6_readWord_75 : decode cX6_readWord 75 = .ok (.getfield 248, 3) := dk_180 0 248 (dk_at dksX6_readWord_3 5 rfl rfl)
theorem dX6_readWord_78 : decode cX6_readWord 78 = .ok (.ifCond .ne 7, 3) := dk_154 0 7 (dk_at dksX6_readWord_3 8 rfl rfl)
theorem dX6_readWord_81 : decode cX6_readWord 81 = .ok (.iload_n 1, 1) := dk_27 (dk_at dksX6_readWord_3 11 rfl rfl)
theorem dX6_readWord_82 : decode cX6_readWord 82 = .ok (.goto 7, 3) := dk_167 0 7 (dk_at dksX6_readWord_3 12 rfl rfl)
theorem dX6_readWord_85 : decode cX6_readWord 85 = .ok (.aload_n 0, 1) := dk_42 (dk_at dksX6_readWord_3 15 rfl rfl)
theorem dX6_readWord_86 : decode cX6_readWord 86 = .ok (.getfield 220, 3) := dk_180 0 220 (dk_at dksX6_readWord_3 16 rfl rfl)
theorem dX6_readWord_89 : decode cX6_readWord 89 = .ok (.putfield 220, 3) := dk_181 0 220 (dk_at dksX6_readWord_3 19 rfl rfl)
theorem dX6_readWord_92 : decode cX6_readWord 92 = .ok (.aload_n 0, 1) := dk_42 (dk_at dksX6_readWord_3 22 rfl rfl)
theorem dX6_readWord_93 : decode cX6_readWord 93 = .ok (.getfield 248, 3) := dk_180 0 248 (dk_at dksX6_readWord_4 0 rfl rfl)
theorem dX6_readWord_96 : decode cX6_readWord 96 = .ok (.ifCond .eq 7, 3) := dk_153 0 7 (dk_at dksX6_readWord_4 3 rfl rfl)
theorem dX6_readWord_99 : decode cX6_readWord 99 = .ok (.iconst 1, 1) := dk_4 (dk_at dksX6_readWord_4 6 rfl rfl)
theorem dX6_readWord_100 : decode cX6_readWord 100 = .ok (.goto 4, 3) := dk_167 0 4 (dk_at dksX6_readWord_4 7 rfl rfl)
theorem dX6_readWord_103 : decode cX6_readWord 103 = .ok (.iconst 0, 1) := dk_3 (dk_at dksX6_readWord_4 10 rfl rfl)
theorem dX6_readWord_104 : decode cX6_readWord 104 = .ok (.ireturn, 1) := dk_172 (dk_at dksX6_readWord_4 11 rfl rfl)
/-! PageGardenModel.readWord()Z -/
abbrev M_X6_readWord (z0 n0 : Nat) (s' : gS) : gM := (RX6, cX6_readWord, 4, (some FieldType.boolean), "readWord", [], 2, z0, n0, s'.2.1, s'.2.2)
abbrev W_X6_readWord (E : gE) (z0 n0 : Nat) (r : Int32) (s' : gS) (pc : Nat) (L : List (Nat × gV)) (st : List gV) (s : gS) : Prop := gW E (M_X6_readWord z0 n0 s') (gQm E (M_X6_readWord z0 n0 s') (.inl (some (vI r))) s') pc L st s
noncomputable def f_X6_readWord_51 (κ : gK) (F : Nat) (k7 : Option Nat → Int32 → Int64 → gS → Option (Int32 × gS)) (l0 : Option Nat) (l1 : Int32) (t0 : Int64) (s : gS) : Option (Int32 × gS) :=
  gB1 (gfI s l0 9 9) fun v1 =>
  gB1 (gpf κ s l0 9 9 (.int (v1 + (1 : Int32)))) fun s2 =>
  k7 l0 l1 t0 s2
set_option maxHeartbeats 4000000 in
theorem w_X6_readWord_51 {E : gE} {F z0 n0 : Nat} {r : Int32} {s' : gS} {k7 : Option Nat → Int32 → Int64 → gS → Option (Int32 × gS)} (hk7 : ∀ (l0 : Option Nat) (l1 : Int32) (l2 : Int64) (s : gS), k7 l0 l1 l2 s = some (r, s') → W_X6_readWord E z0 n0 r s' 7 [(0, vR l0), (1, vI l1), (2, vJ l2)] [] s) : ∀ (l0 : Option Nat) (l1 : Int32) (t0 : Int64) (s : gS), f_X6_readWord_51 (gk E) F k7 l0 l1 t0 s = some (r, s') → W_X6_readWord E z0 n0 r s' 51 [(0, vR l0), (1, vI l1)] [vJ t0] s := by
  intro l0 l1 t0 s hB
  unfold f_X6_readWord_51 at hB
  refine gw_lstore_n (L' := [(2, vJ t0), (0, vR l0), (1, vI l1)]) (Nat.le_of_ble_eq_true rfl) rfl dX6_readWord_51 ?_
  refine gw_aload_n 1 rfl dX6_readWord_52 ?_
  refine gw_dup rfl dX6_readWord_53 ?_
  obtain ⟨v1, hv1, hB⟩ := gB1_some hB
  refine gw_getf (C := RX6) (T := TX6) (N := 13) (k := 9) gcl9 (by decide) in_X6 q2703 (gfI_spec hv1) dX6_readWord_54 ?_
  refine gw_iconst (v := (1 : Int32)) (by decide) dX6_readWord_57 ?_
  refine gw_iadd dX6_readWord_58 ?_
  obtain ⟨s2, hs2, hB⟩ := gB1_some hB
  refine gw_putf (C := RX6) (T := TX6) (N := 13) (k := 9) tyX6 tyX6_ok nmX6 gcl9 (by decide) in_X6 q2703 rfl (tyX6_ok 9 (by decide)) (gNF_i _) hs2 dX6_readWord_59 ?_
  refine gw_goto (tgt := 7) dX6_readWord_62 (by decide) ?_
  exact gw_sub [1, 2, 0] rfl (hk7 _ _ _ _ hB)
noncomputable def f_X6_readWord_104 (κ : gK) (F : Nat)  (t0 : Int32) (s : gS) : Option (Int32 × gS) :=
  gB1 (gok .boolean t0) fun _ => some (t0, s)
set_option maxHeartbeats 4000000 in
theorem w_X6_readWord_104 {E : gE} {F z0 n0 : Nat} {r : Int32} {s' : gS}   : ∀  (t0 : Int32) (s : gS), f_X6_readWord_104 (gk E) F  t0 s = some (r, s') → W_X6_readWord E z0 n0 r s' 104 [] [vI t0] s := by
  intro t0 s hB
  unfold f_X6_readWord_104 at hB
  obtain ⟨u, hu, hB⟩ := gB1_some hB
  obtain ⟨rfl, rfl⟩ := Prod.mk.inj (Option.some.inj hB)
  exact gw_zret rfl hu rfl rfl dX6_readWord_104
noncomputable def f_X6_readWord_89 (κ : gK) (F : Nat)  (l0 : Option Nat) (t0 : Option Nat) (t1 : Int32) (s : gS) : Option (Int32 × gS) :=
  gB1 (gpf κ s t0 9 9 (.int t1)) fun s1 =>
  gB1 (gfI s1 l0 9 10) fun v2 =>
  if v2 = 0 then
    f_X6_readWord_104 κ F  (0 : Int32) s1
  else
    f_X6_readWord_104 κ F  (1 : Int32) s1
set_option maxHeartbeats 4000000 in
theorem w_X6_readWord_89 {E : gE} {F z0 n0 : Nat} {r : Int32} {s' : gS}   : ∀ (l0 : Option Nat) (t0 : Option Nat) (t1 : Int32) (s : gS), f_X6_readWord_89 (gk E) F  l0 t0 t1 s = some (r, s') → W_X6_readWord E z0 n0 r s' 89 [(0, vR l0)] [vI t1, vR t0] s := by
  intro l0 t0 t1 s hB
  unfold f_X6_readWord_89 at hB
  obtain ⟨s1, hs1, hB⟩ := gB1_some hB
  refine gw_putf (C := RX6) (T := TX6) (N := 13) (k := 9) tyX6 tyX6_ok nmX6 gcl9 (by decide) in_X6 q2703 rfl (tyX6_ok 9 (by decide)) (gNF_i _) hs1 dX6_readWord_89 ?_
  refine gw_aload_n 0 rfl dX6_readWord_92 ?_
  obtain ⟨v2, hv2, hB⟩ := gB1_some hB
  refine gw_getf (C := RX6) (T := TX6) (N := 13) (k := 10) gcl9 (by decide) in_X6 q2704 (gfI_spec hv2) dX6_readWord_93 ?_
  refine gw_if_eq (tgt := 103) dX6_readWord_96 (by decide) (fun hcnd => ?_) (fun hcnd => ?_)
  · rw [if_pos hcnd] at hB
    refine gw_iconst (v := (0 : Int32)) (by decide) dX6_readWord_103 ?_
    exact gw_sub [] rfl (w_X6_readWord_104  _ _ hB)
  · rw [if_neg hcnd] at hB
    refine gw_iconst (v := (1 : Int32)) (by decide) dX6_readWord_99 ?_
    refine gw_goto (tgt := 104) dX6_readWord_100 (by decide) ?_
    exact gw_sub [] rfl (w_X6_readWord_104  _ _ hB)
noncomputable def f_X6_readWord_7b (κ : gK) (F : Nat) (k7 : Option Nat → Int32 → Int64 → gS → Option (Int32 × gS)) (l0 : Option Nat) (l1 : Int32) (l2 : Int64) (s : gS) : Option (Int32 × gS) :=
  gB1 (gck s l0 9) fun _ =>
  gB2 (f_X6_here κ F l0  s) fun v2 s1 =>
  gB2 (f_X6_in κ F v2 (97 : Int32) (122 : Int32) s1) fun v5 s4 =>
  if v5 = 0 then
    gB2 (f_X6_meaning κ F l2 s4) fun v7 s6 =>
    gB1 (gpf κ s6 l0 9 10 (.int v7)) fun s8 =>
    gB1 (gfI s8 l0 9 10) fun v9 =>
    if v9 = 0 then
      f_X6_readWord_89 κ F  l0 l0 l1 s8
    else
      gB1 (gfI s8 l0 9 9) fun v10 =>
      f_X6_readWord_89 κ F  l0 l0 v10 s8
  else
    gB1 (gfI s4 l0 9 9) fun v11 =>
    if (l1 + (6 : Int32)) ≤ v11 then
      f_X6_readWord_51 κ F k7 l0 l1 (0 : Int64) s4
    else
      gB1 (gck s4 l0 9) fun _ =>
      gB2 (f_X6_here κ F l0  s4) fun v13 s12 =>
      f_X6_readWord_51 κ F k7 l0 l1 ((((32 : Int64) * l2) + (v13.toInt64)) - (96 : Int64)) s12
noncomputable def f_X6_readWord_7 (κ : gK) (F : Nat)  : Nat → Option Nat → Int32 → Int64 → gS → Option (Int32 × gS)
  | 0 => fun _ _ _ _ => none
  | n + 1 => f_X6_readWord_7b κ F  (f_X6_readWord_7 κ F  n)
set_option maxHeartbeats 4000000 in
theorem w_X6_readWord_7b {E : gE} {F z0 n0 : Nat} {r : Int32} {s' : gS} {k7 : Option Nat → Int32 → Int64 → gS → Option (Int32 × gS)} (hk7 : ∀ (l0 : Option Nat) (l1 : Int32) (l2 : Int64) (s : gS), k7 l0 l1 l2 s = some (r, s') → W_X6_readWord E z0 n0 r s' 7 [(0, vR l0), (1, vI l1), (2, vJ l2)] [] s) : ∀ (l0 : Option Nat) (l1 : Int32) (l2 : Int64)  (s : gS), f_X6_readWord_7b (gk E) F k7 l0 l1 l2 s = some (r, s') → W_X6_readWord E z0 n0 r s' 7 [(0, vR l0), (1, vI l1), (2, vJ l2)] [] s := by
  intro l0 l1 l2 s hB
  unfold f_X6_readWord_7b at hB
  refine gw_aload_n 0 rfl dX6_readWord_7 ?_
  obtain ⟨u0, hu3, hB⟩ := gB1_some hB
  obtain ⟨v2, s1, hv2, hB⟩ := gB2_some hB
  refine gw_callV (y := yX6_here) (lw_V q3054 q3056 qs100 q143 q3057) hdV_X6_here gcl9 hu3 (As := []) (rest := []) (m_X6_here _ _ _ _ hv2) (Nat.le_of_ble_eq_true rfl) (Nat.le_of_ble_eq_true rfl) rfl (Nat.le_of_ble_eq_true rfl) dX6_readWord_8 (gCont_i ?_)
  refine gw_bipush (v := (97 : Int32)) (by decide) dX6_readWord_11 ?_
  refine gw_bipush (v := (122 : Int32)) (by decide) dX6_readWord_13 ?_
  obtain ⟨v5, s4, hv5, hB⟩ := gB2_some hB
  refine gw_callS (y := yX6_in) (lw_S q2777 q2778 q143 q2779) hdS_X6_in (As := [vI v2, vI (97 : Int32), vI (122 : Int32)]) (rest := []) (m_X6_in _ _ _ _ _ _ hv5) (Nat.le_of_ble_eq_true rfl) (Nat.le_of_ble_eq_true rfl) rfl (Nat.le_of_ble_eq_true rfl) dX6_readWord_15 (gCont_i ?_)
  refine gw_if_eq (tgt := 65) dX6_readWord_18 (by decide) (fun hcnd => ?_) (fun hcnd => ?_)
  · rw [if_pos hcnd] at hB
    refine gw_aload_n 0 rfl dX6_readWord_65 ?_
    refine gw_lload_n 2 rfl dX6_readWord_66 ?_
    obtain ⟨v7, s6, hv7, hB⟩ := gB2_some hB
    refine gw_callS (y := yX6_meaning) (lw_S q3068 q3069 q143 q3070) hdS_X6_meaning (As := [vJ l2]) (rest := [vR l0]) (m_X6_meaning _ _ _ _ hv7) (Nat.le_of_ble_eq_true rfl) (Nat.le_of_ble_eq_true rfl) rfl (Nat.le_of_ble_eq_true rfl) dX6_readWord_67 (gCont_i ?_)
    obtain ⟨s8, hs8, hB⟩ := gB1_some hB
    refine gw_putf (C := RX6) (T := TX6) (N := 13) (k := 10) tyX6 tyX6_ok nmX6 gcl9 (by decide) in_X6 q2704 rfl (tyX6_ok 10 (by decide)) (gNF_i _) hs8 dX6_readWord_70 ?_
    refine gw_aload_n 0 rfl dX6_readWord_73 ?_
    refine gw_aload_n 0 rfl dX6_readWord_74 ?_
    obtain ⟨v9, hv9, hB⟩ := gB1_some hB
    refine gw_getf (C := RX6) (T := TX6) (N := 13) (k := 10) gcl9 (by decide) in_X6 q2704 (gfI_spec hv9) dX6_readWord_75 ?_
    refine gw_if_ne (tgt := 85) dX6_readWord_78 (by decide) (fun hcnd => ?_) (fun hcnd => ?_)
    · rw [if_neg hcnd] at hB
      refine gw_aload_n 0 rfl dX6_readWord_85 ?_
      obtain ⟨v10, hv10, hB⟩ := gB1_some hB
      refine gw_getf (C := RX6) (T := TX6) (N := 13) (k := 9) gcl9 (by decide) in_X6 q2703 (gfI_spec hv10) dX6_readWord_86 ?_
      exact gw_sub [0] rfl (w_X6_readWord_89  _ _ _ _ hB)
    · rw [if_pos hcnd] at hB
      refine gw_iload_n 1 rfl dX6_readWord_81 ?_
      refine gw_goto (tgt := 89) dX6_readWord_82 (by decide) ?_
      exact gw_sub [0] rfl (w_X6_readWord_89  _ _ _ _ hB)
  · rw [if_neg hcnd] at hB
    refine gw_aload_n 0 rfl dX6_readWord_21 ?_
    obtain ⟨v11, hv11, hB⟩ := gB1_some hB
    refine gw_getf (C := RX6) (T := TX6) (N := 13) (k := 9) gcl9 (by decide) in_X6 q2703 (gfI_spec hv11) dX6_readWord_22 ?_
    refine gw_iload_n 1 rfl dX6_readWord_25 ?_
    refine gw_bipush (v := (6 : Int32)) (by decide) dX6_readWord_26 ?_
    refine gw_iadd dX6_readWord_28 ?_
    refine gw_icmp_ge (tgt := 50) dX6_readWord_29 (by decide) (fun hcnd => ?_) (fun hcnd => ?_)
    · rw [if_pos hcnd] at hB
      refine gw_lconst (v := (0 : Int64)) (by decide) dX6_readWord_50 ?_
      exact gw_sub [0, 1] rfl (w_X6_readWord_51 hk7 _ _ _ _ hB)
    · rw [if_neg hcnd] at hB
      refine gw_ldc2 (32 : Int64) q3066 dX6_readWord_32 ?_
      refine gw_lload_n 2 rfl dX6_readWord_35 ?_
      refine gw_lmul dX6_readWord_36 ?_
      refine gw_aload_n 0 rfl dX6_readWord_37 ?_
      obtain ⟨u0, hu14, hB⟩ := gB1_some hB
      obtain ⟨v13, s12, hv13, hB⟩ := gB2_some hB
      refine gw_callV (y := yX6_here) (lw_V q3054 q3056 qs100 q143 q3057) hdV_X6_here gcl9 hu14 (As := []) (rest := [vJ ((32 : Int64) * l2)]) (m_X6_here _ _ _ _ hv13) (Nat.le_of_ble_eq_true rfl) (Nat.le_of_ble_eq_true rfl) rfl (Nat.le_of_ble_eq_true rfl) dX6_readWord_38 (gCont_i ?_)
      refine gw_i2l dX6_readWord_41 ?_
      refine gw_ladd dX6_readWord_42 ?_
      refine gw_ldc2 (96 : Int64) q3067 dX6_readWord_43 ?_
      refine gw_lsub dX6_readWord_46 ?_
      refine gw_goto (tgt := 51) dX6_readWord_47 (by decide) ?_
      exact gw_sub [0, 1] rfl (w_X6_readWord_51 hk7 _ _ _ _ hB)
theorem w_X6_readWord_7 {E : gE} {F z0 n0 : Nat} {r : Int32} {s' : gS}   : ∀ (n : Nat) (l0 : Option Nat) (l1 : Int32) (l2 : Int64)  (s : gS), f_X6_readWord_7 (gk E) F  n l0 l1 l2 s = some (r, s') → W_X6_readWord E z0 n0 r s' 7 [(0, vR l0), (1, vI l1), (2, vJ l2)] [] s := by
  intro n
  induction n with
  | zero => intro l0 l1 l2 s hB; cases hB
  | succ n ih => intro l0 l1 l2 s hB; exact w_X6_readWord_7b ih l0 l1 l2 s hB
noncomputable def f_X6_readWord_0 (κ : gK) (F : Nat)  (l0 : Option Nat) (s : gS) : Option (Int32 × gS) :=
  gB1 (gfI s l0 9 9) fun v1 =>
  f_X6_readWord_7 κ F  F l0 v1 (0 : Int64) s
set_option maxHeartbeats 4000000 in
theorem w_X6_readWord_0 {E : gE} {F z0 n0 : Nat} {r : Int32} {s' : gS}   : ∀ (l0 : Option Nat)  (s : gS), f_X6_readWord_0 (gk E) F  l0 s = some (r, s') → W_X6_readWord E z0 n0 r s' 0 [(0, vR l0)] [] s := by
  intro l0 s hB
  unfold f_X6_readWord_0 at hB
  refine gw_aload_n 0 rfl dX6_readWord_0 ?_
  obtain ⟨v1, hv1, hB⟩ := gB1_some hB
  refine gw_getf (C := RX6) (T := TX6) (N := 13) (k := 9) gcl9 (by decide) in_X6 q2703 (gfI_spec hv1) dX6_readWord_1 ?_
  refine gw_istore_n (L' := [(1, vI v1), (0, vR l0)]) (Nat.le_of_ble_eq_true rfl) rfl dX6_readWord_4 ?_
  refine gw_lconst (v := (0 : Int64)) (by decide) dX6_readWord_5 ?_
  refine gw_lstore_n (L' := [(2, vJ (0 : Int64)), (1, vI v1), (0, vR l0)]) (Nat.le_of_ble_eq_true rfl) rfl dX6_readWord_6 ?_
  exact gw_sub [2, 1, 0] rfl (w_X6_readWord_7  F _ _ _ _ hB)
noncomputable def f_X6_readWord (κ : gK) (F : Nat) (a0 : Option Nat) (s : gS) : Option (Int32 × gS) := f_X6_readWord_0 κ F a0 s
theorem m_X6_readWord {E : gE} {F : Nat} (a0 : Option Nat) (s : gS) (r : Int32) (s' : gS) (h : f_X6_readWord (gk E) F a0 s = some (r, s')) : gCT E 2 yX6_readWord (ws_ yX6_readWord cX6_readWord 4 (some FieldType.boolean)) [vR a0] s (.inl (some (vI r))) s' := by
  refine gCT_of2 (fun h => absurd h (by decide)) (plainFor_of_name (by decide)) (Nat.le_of_ble_eq_true rfl) ?_
  exact gw_sub [0] rfl (w_X6_readWord_0 _ _ h)
def dkwX6_readNumber_4 : List UInt8 := [167, 0, 4, 3, 172]
abbrev dktX6_readNumber_4 : List UInt8 := dkwX6_readNumber_4 ++ []
def dkwX6_readNumber_3 : List UInt8 := [100, 79, 42, 89, 180, 0, 220, 4, 96, 181, 0, 220, 167, 255, 199, 42, 180, 0, 220, 28, 164, 0, 7, 4]
abbrev dktX6_readNumber_3 : List UInt8 := dkwX6_readNumber_3 ++ dktX6_readNumber_4
def dkwX6_readNumber_2 : List UInt8 := [162, 0, 39, 42, 180, 0, 25, 27, 16, 10, 42, 180, 0, 25, 27, 46, 104, 42, 182, 0, 223, 96, 16, 48]
abbrev dktX6_readNumber_2 : List UInt8 := dkwX6_readNumber_2 ++ dktX6_readNumber_3
def dkwX6_readNumber_1 : List UInt8 := [27, 3, 79, 42, 182, 0, 223, 16, 48, 16, 57, 184, 0, 113, 153, 0, 49, 42, 180, 0, 220, 28, 6, 96]
abbrev dktX6_readNumber_1 : List UInt8 := dkwX6_readNumber_1 ++ dktX6_readNumber_2
def dkwX6_readNumber_0 : List UInt8 := [42, 182, 0, 223, 16, 32, 159, 0, 5, 3, 172, 42, 182, 0, 251, 42, 180, 0, 220, 61, 42, 180, 0, 25]
abbrev dktX6_readNumber_0 : List UInt8 := dkwX6_readNumber_0 ++ dktX6_readNumber_1
theorem dksX6_readNumber_0 : cX6_readNumber.data.toList.drop 0 = dktX6_readNumber_0 := by decide +kernel
theorem dksX6_readNumber_1 : cX6_readNumber.data.toList.drop 24 = dktX6_readNumber_1 := dk_seg dksX6_readNumber_0 24 rfl rfl
theorem dksX6_readNumber_2 : cX6_readNumber.data.toList.drop 48 = dktX6_readNumber_2 := dk_seg dksX6_readNumber_1 24 rfl rfl
theorem dksX6_readNumber_3 : cX6_readNumber.data.toList.drop 72 = dktX6_readNumber_3 := dk_seg dksX6_readNumber_2 24 rfl rfl
theorem dksX6_readNumber_4 : cX6_readNumber.data.toList.drop 96 = dktX6_readNumber_4 := dk_seg dksX6_readNumber_3 24 rfl rfl
theorem dX6_readNumber_0 : decode cX6_readNumber 0 = .ok (.aload_n 0, 1) := dk_42 (dk_at dksX6_readNumber_0 0 rfl rfl)
theorem dX6_readNumber_1 : decode cX6_readNumber 1 = .ok (.invokevirtual 223, 3) := dk_182 0 223 (dk_at dksX6_readNumber_0 1 rfl rfl)
theorem dX6_readNumber_4 : decode cX6_readNumber 4 = .ok (.bipush 32, 2) := dk_16 32 (dk_at dksX6_readNumber_0 4 rfl rfl)
theorem dX6_readNumber_6 : decode cX6_readNumber 6 = .ok (.if_icmp .eq 5, 3) := dk_159 0 5 (dk_at dksX6_readNumber_0 6 rfl rfl)
theorem dX6_readNumber_9 : decode cX6_readNumber 9 = .ok (.iconst 0, 1) := dk_3 (dk_at dksX6_readNumber_0 9 rfl rfl)
theorem dX6_readNumber_10 : decode cX6_readNumber 10 = .ok (.ireturn, 1) := dk_172 (dk_at dksX6_readNumber_0 10 rfl rfl)
theorem dX6_readNumber_11 : decode cX6_readNumber 11 = .ok (.aload_n 0, 1) := dk_42 (dk_at dksX6_readNumber_0 11 rfl rfl)
theorem dX6_readNumber_12 : decode cX6_readNumber 12 = .ok (.invokevirtual 251, 3) := dk_182 0 251 (dk_at dksX6_readNumber_0 12 rfl rfl)
theorem dX6_readNumber_15 : decode cX6_readNumber 15 = .ok (.aload_n 0, 1) := dk_42 (dk_at dksX6_readNumber_0 15 rfl rfl)
theorem dX6_readNumber_16 : decode cX6_readNumber 16 = .ok (.getfield 220, 3) := dk_180 0 220 (dk_at dksX6_readNumber_0 16 rfl rfl)
theorem dX6_readNumber_19 : decode cX6_readNumber 19 = .ok (.istore_n 2, 1) := dk_61 (dk_at dksX6_readNumber_0 19 rfl rfl)
theorem dX6_readNumber_20 : decode cX6_readNumber 20 = .ok (.aload_n 0, 1) := dk_42 (dk_at dksX6_readNumber_0 20 rfl rfl)
theorem dX6_readNumber_21 : decode cX6_readNumber 21 = .ok (.getfield 25, 3) := dk_180 0 25 (dk_at dksX6_readNumber_0 21 rfl rfl)
theorem dX6_readNumber_24 : decode cX6_readNumber 24 = .ok (.iload_n 1, 1) := dk_27 (dk_at dksX6_readNumber_1 0 rfl rfl)
theorem dX6_readNumber_25 : decode cX6_readNumber 25 = .ok (.iconst 0, 1) := dk_3 (dk_at dksX6_readNumber_1 1 rfl rfl)
theorem dX6_readNumber_26 : decode cX6_readNumber 26 = .ok (.iastore, 1) := dk_79 (dk_at dksX6_readNumber_1 2 rfl rfl)
theorem dX6_readNumber_27 : decode cX6_readNumber 27 = .ok (.aload_n 0, 1) := dk_42 (dk_at dksX6_readNumber_1 3 rfl rfl)
theorem dX6_readNumber_28 : decode cX6_readNumber 28 = .ok (.invokevirtual 223, 3) := dk_182 0 223 (dk_at dksX6_readNumber_1 4 rfl rfl)
theorem dX6_readNumber_31 : decode cX6_readNumber 31 = .ok (.bipush 48, 2) := dk_16 48 (dk_at dksX6_readNumber_1 7 rfl rfl)
theorem dX6_readNumber_33 : decode cX6_readNumber 33 = .ok (.bipush 57, 2) := dk_16 57 (dk_at dksX6_readNumber_1 9 rfl rfl)
theorem dX6_readNumber_35 : decode cX6_readNumber 35 = .ok (.invokestatic 113, 3) := dk_184 0 113 (dk_at dksX6_readNumber_1 11 rfl rfl)
theorem dX6_readNumber_38 : decode cX6_readNumber 38 = .ok (.ifCond .eq 49, 3) := dk_153 0 49 (dk_at dksX6_readNumber_1 14 rfl rfl)
theorem dX6_readNumber_41 : decode cX6_readNumber 41 = .ok (.aload_n 0, 1) := dk_42 (dk_at dksX6_readNumber_1 17 rfl rfl)
theorem dX6_readNumber_42 : decode cX6_readNumber 42 = .ok (.getfield 220, 3) := dk_180 0 220 (dk_at dksX6_readNumber_1 18 rfl rfl)
theorem dX6_readNumber_45 : decode cX6_readNumber 45 = .ok (.iload_n 2, 1) := dk_28 (dk_at dksX6_readNumber_1 21 rfl rfl)
theorem dX6_readNumber_46 : decode cX6_readNumber 46 = .ok (.iconst 3, 1) := dk_6 (dk_at dksX6_readNumber_1 22 rfl rfl)
theorem dX6_readNumber_47 : decode cX6_readNumber 47 = .ok (.iadd, 1) := dk_96 (dk_at dksX6_readNumber_1 23 rfl rfl)
theorem dX6_readNumber_48 : decode cX6_readNumber 48 = .ok (.if_icmp .ge 39, 3) := dk_162 0 39 (dk_at dksX6_readNumber_2 0 rfl rfl)
theorem dX6_readNumber_51 : decode cX6_readNumber 51 = .ok (.aload_n 0, 1) := dk_42 (dk_at dksX6_readNumber_2 3 rfl rfl)
theorem dX6_readNumber_52 : decode cX6_readNumber 52 = .ok (.getfield 25, 3) := dk_180 0 25 (dk_at dksX6_readNumber_2 4 rfl rfl)
theorem dX6_readNumber_55 : decode cX6_readNumber 55 = .ok (.iload_n 1, 1) := dk_27 (dk_at dksX6_readNumber_2 7 rfl rfl)
theorem dX6_readNumber_56 : decode cX6_readNumber 56 = .ok (.bipush 10, 2) := dk_16 10 (dk_at dksX6_readNumber_2 8 rfl rfl)
theorem dX6_readNumber_58 : decode cX6_readNumber 58 = .ok (.aload_n 0, 1) := dk_42 (dk_at dksX6_readNumber_2 10 rfl rfl)
theorem dX6_readNumber_59 : decode cX6_readNumber 59 = .ok (.getfield 25, 3) := dk_180 0 25 (dk_at dksX6_readNumber_2 11 rfl rfl)
theorem dX6_readNumber_62 : decode cX6_readNumber 62 = .ok (.iload_n 1, 1) := dk_27 (dk_at dksX6_readNumber_2 14 rfl rfl)
theorem dX6_readNumber_63 : decode cX6_readNumber 63 = .ok (.iaload, 1) := dk_46 (dk_at dksX6_readNumber_2 15 rfl rfl)
theorem dX6_readNumber_64 : decode cX6_readNumber 64 = .ok (.imul, 1) := dk_104 (dk_at dksX6_readNumber_2 16 rfl rfl)
theorem dX6_readNumber_65 : decode cX6_readNumber 65 = .ok (.aload_n 0, 1) := dk_42 (dk_at dksX6_readNumber_2 17 rfl rfl)
theorem dX6_readNumber_66 : decode cX6_readNumber 66 = .ok (.invokevirtual 223, 3) := dk_182 0 223 (dk_at dksX6_readNumber_2 18 rfl rfl)
theorem dX6_readNumber_69 : decode cX6_readNumber 69 = .ok (.iadd, 1) := dk_96 (dk_at dksX6_readNumber_2 21 rfl rfl)
theorem dX6_readNumber_70 : decode cX6_readNumber 70 = .ok (.bipush 48, 2) := dk_16 48 (dk_at dksX6_readNumber_2 22 rfl rfl)
theorem dX6_readNumber_72 : decode cX6_readNumber 72 = .ok (.isub, 1) := dk_100 (dk_at dksX6_readNumber_3 0 rfl rfl)
theorem dX6_readNumber_73 : decode cX6_readNumber 73 = .ok (.iastore, 1) := dk_79 (dk_at dksX6_readNumber_3 1 rfl rfl)
theorem dX6_readNumber_74 : decode cX6_readNumber 74 = .ok (.aload_n 0, 1) := dk_42 (dk_at dksX6_readNumber_3 2 rfl rfl)
theorem dX6_readNumber_75 : decode cX6_readNumber 75 = .ok (.dup, 1) := dk_89 (dk_at dksX6_readNumber_3 3 rfl rfl)
theorem dX6_readNumber_76 : decode cX6_readNumber 76 = .ok (.getfield 220, 3) := dk_180 0 220 (dk_at dksX6_readNumber_3 4 rfl rfl)
theorem dX6_readNumber_79 : decode cX6_readNumber 79 = .ok (.iconst 1, 1) := dk_4 (dk_at dksX6_readNumber_3 7 rfl rfl)
theorem dX6_readNumber_80 : decode cX6_readNumber 80 = .ok (.iadd, 1) := dk_96 (dk_at dksX6_readNumber_3 8 rfl rfl)
theorem dX6_readNumber_81 : decode cX6_readNumber 81 = .ok (.putfield 220, 3) := dk_181 0 220 (dk_at dksX6_readNumber_3 9 rfl rfl)
theorem dX6_readNumber_84 : decode cX6_readNumber 84 = .ok (.goto (-57), 3) := dk_167 255 199 (dk_at dksX6_readNumber_3 12 rfl rfl)
theorem dX6_readNumber_87 : decode cX6_readNumber 87 = .ok (.aload_n 0, 1) := dk_42 (dk_at dksX6_readNumber_3 15 rfl rfl)
theorem dX6_readNumber_88 : decode cX6_readNumber 88 = .ok (.getfield 220, 3) := dk_180 0 220 (dk_at dksX6_readNumber_3 16 rfl rfl)
theorem dX6_readNumber_91 : decode cX6_readNumber 91 = .ok (.iload_n 2, 1) := dk_28 (dk_at dksX6_readNumber_3 19 rfl rfl)
theorem dX6_readNumber_92 : decode cX6_readNumber 92 = .ok (.if_icmp .le 7, 3) := dk_164 0 7 (dk_at dksX6_readNumber_3 20 rfl rfl)
theorem dX6_readNumber_95 : decode cX6_readNumber 95 = .ok (.iconst 1, 1) := dk_4 (dk_at dksX6_readNumber_3 23 rfl rfl)
theorem dX6_readNumber_96 : decode cX6_readNumber 96 = .ok (.goto 4, 3) := dk_167 0 4 (dk_at dksX6_readNumber_4 0 rfl rfl)
theorem dX6_readNumber_99 : decode cX6_readNumber 99 = .ok (.iconst 0, 1) := dk_3 (dk_at dksX6_readNumber_4 3 rfl rfl)
theorem dX6_readNumber_100 : decode cX6_readNumber 100 = .ok (.ireturn, 1) := dk_172 (dk_at dksX6_readNumber_4 4 rfl rfl)
/-! PageGardenModel.readNumber(I)Z -/
abbrev M_X6_readNumber (z0 n0 : Nat) (s' : gS) : gM := (RX6, cX6_readNumber, 3, (some FieldType.boolean), "readNumber", [], 3, z0, n0, s'.2.1, s'.2.2)
abbrev W_X6_readNumber (E : gE) (z0 n0 : Nat) (r : Int32) (s' : gS) (pc : Nat) (L : List (Nat × gV)) (st : List gV) (s : gS) : Prop := gW E (M_X6_readNumber z0 n0 s') (gQm E (M_X6_readNumber z0 n0 s') (.inl (some (vI r))) s') pc L st s
noncomputable def f_X6_readNumber_100 (κ : gK) (F : Nat)  (t0 : Int32) (s : gS) : Option (Int32 × gS) :=
  gB1 (gok .boolean t0) fun _ => some (t0, s)
set_option maxHeartbeats 4000000 in
theorem w_X6_readNumber_100 {E : gE} {F z0 n0 : Nat} {r : Int32} {s' : gS}   : ∀  (t0 : Int32) (s : gS), f_X6_readNumber_100 (gk E) F  t0 s = some (r, s') → W_X6_readNumber E z0 n0 r s' 100 [] [vI t0] s := by
  intro t0 s hB
  unfold f_X6_readNumber_100 at hB
  obtain ⟨u, hu, hB⟩ := gB1_some hB
  obtain ⟨rfl, rfl⟩ := Prod.mk.inj (Option.some.inj hB)
  exact gw_zret rfl hu rfl rfl dX6_readNumber_100
noncomputable def f_X6_readNumber_87 (κ : gK) (F : Nat)  (l0 : Option Nat) (l2 : Int32) (s : gS) : Option (Int32 × gS) :=
  gB1 (gfI s l0 9 9) fun v1 =>
  if v1 ≤ l2 then
    f_X6_readNumber_100 κ F  (0 : Int32) s
  else
    f_X6_readNumber_100 κ F  (1 : Int32) s
set_option maxHeartbeats 4000000 in
theorem w_X6_readNumber_87 {E : gE} {F z0 n0 : Nat} {r : Int32} {s' : gS}   : ∀ (l0 : Option Nat) (l2 : Int32)  (s : gS), f_X6_readNumber_87 (gk E) F  l0 l2 s = some (r, s') → W_X6_readNumber E z0 n0 r s' 87 [(0, vR l0), (2, vI l2)] [] s := by
  intro l0 l2 s hB
  unfold f_X6_readNumber_87 at hB
  refine gw_aload_n 0 rfl dX6_readNumber_87 ?_
  obtain ⟨v1, hv1, hB⟩ := gB1_some hB
  refine gw_getf (C := RX6) (T := TX6) (N := 13) (k := 9) gcl9 (by decide) in_X6 q2703 (gfI_spec hv1) dX6_readNumber_88 ?_
  refine gw_iload_n 1 rfl dX6_readNumber_91 ?_
  refine gw_icmp_le (tgt := 99) dX6_readNumber_92 (by decide) (fun hcnd => ?_) (fun hcnd => ?_)
  · rw [if_pos hcnd] at hB
    refine gw_iconst (v := (0 : Int32)) (by decide) dX6_readNumber_99 ?_
    exact gw_sub [] rfl (w_X6_readNumber_100  _ _ hB)
  · rw [if_neg hcnd] at hB
    refine gw_iconst (v := (1 : Int32)) (by decide) dX6_readNumber_95 ?_
    refine gw_goto (tgt := 100) dX6_readNumber_96 (by decide) ?_
    exact gw_sub [] rfl (w_X6_readNumber_100  _ _ hB)
noncomputable def f_X6_readNumber_27b (κ : gK) (F : Nat) (k27 : Option Nat → Int32 → Int32 → gS → Option (Int32 × gS)) (l0 : Option Nat) (l1 : Int32) (l2 : Int32) (s : gS) : Option (Int32 × gS) :=
  gB1 (gck s l0 9) fun _ =>
  gB2 (f_X6_here κ F l0  s) fun v2 s1 =>
  gB2 (f_X6_in κ F v2 (48 : Int32) (57 : Int32) s1) fun v5 s4 =>
  if v5 = 0 then
    f_X6_readNumber_87 κ F  l0 l2 s4
  else
    gB1 (gfI s4 l0 9 9) fun v6 =>
    if (l2 + (3 : Int32)) ≤ v6 then
      f_X6_readNumber_87 κ F  l0 l2 s4
    else
      gB1 (gfR s4 l0 9 11) fun v7 =>
      gB1 (gfR s4 l0 9 11) fun v8 =>
      gB1 (gaI s4 v8 0 l1) fun v9 =>
      gB1 (gck s4 l0 9) fun _ =>
      gB2 (f_X6_here κ F l0  s4) fun v11 s10 =>
      gB1 (gsI κ s10 v7 l1 ((((10 : Int32) * v9) + v11) - (48 : Int32))) fun s13 =>
      gB1 (gfI s13 l0 9 9) fun v14 =>
      gB1 (gpf κ s13 l0 9 9 (.int (v14 + (1 : Int32)))) fun s15 =>
      k27 l0 l1 l2 s15
noncomputable def f_X6_readNumber_27 (κ : gK) (F : Nat)  : Nat → Option Nat → Int32 → Int32 → gS → Option (Int32 × gS)
  | 0 => fun _ _ _ _ => none
  | n + 1 => f_X6_readNumber_27b κ F  (f_X6_readNumber_27 κ F  n)
set_option maxHeartbeats 4000000 in
theorem w_X6_readNumber_27b {E : gE} {F z0 n0 : Nat} {r : Int32} {s' : gS} {k27 : Option Nat → Int32 → Int32 → gS → Option (Int32 × gS)} (hk27 : ∀ (l0 : Option Nat) (l1 : Int32) (l2 : Int32) (s : gS), k27 l0 l1 l2 s = some (r, s') → W_X6_readNumber E z0 n0 r s' 27 [(0, vR l0), (1, vI l1), (2, vI l2)] [] s) : ∀ (l0 : Option Nat) (l1 : Int32) (l2 : Int32)  (s : gS), f_X6_readNumber_27b (gk E) F k27 l0 l1 l2 s = some (r, s') → W_X6_readNumber E z0 n0 r s' 27 [(0, vR l0), (1, vI l1), (2, vI l2)] [] s := by
  intro l0 l1 l2 s hB
  unfold f_X6_readNumber_27b at hB
  refine gw_aload_n 0 rfl dX6_readNumber_27 ?_
  obtain ⟨u0, hu3, hB⟩ := gB1_some hB
  obtain ⟨v2, s1, hv2, hB⟩ := gB2_some hB
  refine gw_callV (y := yX6_here) (lw_V q3054 q3056 qs100 q143 q3057) hdV_X6_here gcl9 hu3 (As := []) (rest := []) (m_X6_here _ _ _ _ hv2) (Nat.le_of_ble_eq_true rfl) (Nat.le_of_ble_eq_true rfl) rfl (Nat.le_of_ble_eq_true rfl) dX6_readNumber_28 (gCont_i ?_)
  refine gw_bipush (v := (48 : Int32)) (by decide) dX6_readNumber_31 ?_
  refine gw_bipush (v := (57 : Int32)) (by decide) dX6_readNumber_33 ?_
  obtain ⟨v5, s4, hv5, hB⟩ := gB2_some hB
  refine gw_callS (y := yX6_in) (lw_S q2777 q2778 q143 q2779) hdS_X6_in (As := [vI v2, vI (48 : Int32), vI (57 : Int32)]) (rest := []) (m_X6_in _ _ _ _ _ _ hv5) (Nat.le_of_ble_eq_true rfl) (Nat.le_of_ble_eq_true rfl) rfl (Nat.le_of_ble_eq_true rfl) dX6_readNumber_35 (gCont_i ?_)
  refine gw_if_eq (tgt := 87) dX6_readNumber_38 (by decide) (fun hcnd => ?_) (fun hcnd => ?_)
  · rw [if_pos hcnd] at hB
    exact gw_sub [0, 2] rfl (w_X6_readNumber_87  _ _ _ hB)
  · rw [if_neg hcnd] at hB
    refine gw_aload_n 0 rfl dX6_readNumber_41 ?_
    obtain ⟨v6, hv6, hB⟩ := gB1_some hB
    refine gw_getf (C := RX6) (T := TX6) (N := 13) (k := 9) gcl9 (by decide) in_X6 q2703 (gfI_spec hv6) dX6_readNumber_42 ?_
    refine gw_iload_n 2 rfl dX6_readNumber_45 ?_
    refine gw_iconst (v := (3 : Int32)) (by decide) dX6_readNumber_46 ?_
    refine gw_iadd dX6_readNumber_47 ?_
    refine gw_icmp_ge (tgt := 87) dX6_readNumber_48 (by decide) (fun hcnd => ?_) (fun hcnd => ?_)
    · rw [if_pos hcnd] at hB
      exact gw_sub [0, 2] rfl (w_X6_readNumber_87  _ _ _ hB)
    · rw [if_neg hcnd] at hB
      refine gw_aload_n 0 rfl dX6_readNumber_51 ?_
      obtain ⟨v7, hv7, hB⟩ := gB1_some hB
      refine gw_getf (C := RX6) (T := TX6) (N := 13) (k := 11) gcl9 (by decide) in_X6 q2705 (gfR_spec hv7) dX6_readNumber_52 ?_
      refine gw_iload_n 1 rfl dX6_readNumber_55 ?_
      refine gw_bipush (v := (10 : Int32)) (by decide) dX6_readNumber_56 ?_
      refine gw_aload_n 0 rfl dX6_readNumber_58 ?_
      obtain ⟨v8, hv8, hB⟩ := gB1_some hB
      refine gw_getf (C := RX6) (T := TX6) (N := 13) (k := 11) gcl9 (by decide) in_X6 q2705 (gfR_spec hv8) dX6_readNumber_59 ?_
      refine gw_iload_n 1 rfl dX6_readNumber_62 ?_
      obtain ⟨v9, hv9, hB⟩ := gB1_some hB
      refine gw_iaload hv9 dX6_readNumber_63 ?_
      refine gw_imul dX6_readNumber_64 ?_
      refine gw_aload_n 0 rfl dX6_readNumber_65 ?_
      obtain ⟨u0, hu12, hB⟩ := gB1_some hB
      obtain ⟨v11, s10, hv11, hB⟩ := gB2_some hB
      refine gw_callV (y := yX6_here) (lw_V q3054 q3056 qs100 q143 q3057) hdV_X6_here gcl9 hu12 (As := []) (rest := [vI ((10 : Int32) * v9), vI l1, vR v7]) (m_X6_here _ _ _ _ hv11) (Nat.le_of_ble_eq_true rfl) (Nat.le_of_ble_eq_true rfl) rfl (Nat.le_of_ble_eq_true rfl) dX6_readNumber_66 (gCont_i ?_)
      refine gw_iadd dX6_readNumber_69 ?_
      refine gw_bipush (v := (48 : Int32)) (by decide) dX6_readNumber_70 ?_
      refine gw_isub dX6_readNumber_72 ?_
      obtain ⟨s13, hs13, hB⟩ := gB1_some hB
      refine gw_iastore hs13 dX6_readNumber_73 ?_
      refine gw_aload_n 0 rfl dX6_readNumber_74 ?_
      refine gw_dup rfl dX6_readNumber_75 ?_
      obtain ⟨v14, hv14, hB⟩ := gB1_some hB
      refine gw_getf (C := RX6) (T := TX6) (N := 13) (k := 9) gcl9 (by decide) in_X6 q2703 (gfI_spec hv14) dX6_readNumber_76 ?_
      refine gw_iconst (v := (1 : Int32)) (by decide) dX6_readNumber_79 ?_
      refine gw_iadd dX6_readNumber_80 ?_
      obtain ⟨s15, hs15, hB⟩ := gB1_some hB
      refine gw_putf (C := RX6) (T := TX6) (N := 13) (k := 9) tyX6 tyX6_ok nmX6 gcl9 (by decide) in_X6 q2703 rfl (tyX6_ok 9 (by decide)) (gNF_i _) hs15 dX6_readNumber_81 ?_
      refine gw_goto (tgt := 27) dX6_readNumber_84 (by decide) ?_
      exact gw_sub [0, 1, 2] rfl (hk27 _ _ _ _ hB)
theorem w_X6_readNumber_27 {E : gE} {F z0 n0 : Nat} {r : Int32} {s' : gS}   : ∀ (n : Nat) (l0 : Option Nat) (l1 : Int32) (l2 : Int32)  (s : gS), f_X6_readNumber_27 (gk E) F  n l0 l1 l2 s = some (r, s') → W_X6_readNumber E z0 n0 r s' 27 [(0, vR l0), (1, vI l1), (2, vI l2)] [] s := by
  intro n
  induction n with
  | zero => intro l0 l1 l2 s hB; cases hB
  | succ n ih => intro l0 l1 l2 s hB; exact w_X6_readNumber_27b ih l0 l1 l2 s hB
noncomputable def f_X6_readNumber_0 (κ : gK) (F : Nat)  (l0 : Option Nat) (l1 : Int32) (s : gS) : Option (Int32 × gS) :=
  gB1 (gck s l0 9) fun _ =>
  gB2 (f_X6_here κ F l0  s) fun v2 s1 =>
  if v2 = (32 : Int32) then
    gB1 (gck s1 l0 9) fun _ =>
    gB2 (f_X6_spaces κ F l0  s1) fun v5 s4 =>
    gB1 (gfI s4 l0 9 9) fun v7 =>
    gB1 (gfR s4 l0 9 11) fun v8 =>
    gB1 (gsI κ s4 v8 l1 (0 : Int32)) fun s9 =>
    f_X6_readNumber_27 κ F  F l0 l1 v7 s9
  else
    gB1 (gok .boolean (0 : Int32)) fun _ => some ((0 : Int32), s1)
set_option maxHeartbeats 4000000 in
theorem w_X6_readNumber_0 {E : gE} {F z0 n0 : Nat} {r : Int32} {s' : gS}   : ∀ (l0 : Option Nat) (l1 : Int32)  (s : gS), f_X6_readNumber_0 (gk E) F  l0 l1 s = some (r, s') → W_X6_readNumber E z0 n0 r s' 0 [(0, vR l0), (1, vI l1)] [] s := by
  intro l0 l1 s hB
  unfold f_X6_readNumber_0 at hB
  refine gw_aload_n 0 rfl dX6_readNumber_0 ?_
  obtain ⟨u0, hu3, hB⟩ := gB1_some hB
  obtain ⟨v2, s1, hv2, hB⟩ := gB2_some hB
  refine gw_callV (y := yX6_here) (lw_V q3054 q3056 qs100 q143 q3057) hdV_X6_here gcl9 hu3 (As := []) (rest := []) (m_X6_here _ _ _ _ hv2) (Nat.le_of_ble_eq_true rfl) (Nat.le_of_ble_eq_true rfl) rfl (Nat.le_of_ble_eq_true rfl) dX6_readNumber_1 (gCont_i ?_)
  refine gw_bipush (v := (32 : Int32)) (by decide) dX6_readNumber_4 ?_
  refine gw_icmp_eq (tgt := 11) dX6_readNumber_6 (by decide) (fun hcnd => ?_) (fun hcnd => ?_)
  · rw [if_pos hcnd] at hB
    refine gw_aload_n 0 rfl dX6_readNumber_11 ?_
    obtain ⟨u0, hu6, hB⟩ := gB1_some hB
    obtain ⟨v5, s4, hv5, hB⟩ := gB2_some hB
    refine gw_callV (y := yX6_spaces) (lw_V q3050 q3052 qs99 q143 q3053) hdV_X6_spaces gcl9 hu6 (As := []) (rest := []) (m_X6_spaces _ _ _ _ hv5) (Nat.le_of_ble_eq_true rfl) (Nat.le_of_ble_eq_true rfl) rfl (Nat.le_of_ble_eq_true rfl) dX6_readNumber_12 (gCont_v ?_)
    refine gw_aload_n 0 rfl dX6_readNumber_15 ?_
    obtain ⟨v7, hv7, hB⟩ := gB1_some hB
    refine gw_getf (C := RX6) (T := TX6) (N := 13) (k := 9) gcl9 (by decide) in_X6 q2703 (gfI_spec hv7) dX6_readNumber_16 ?_
    refine gw_istore_n (L' := [(2, vI v7), (0, vR l0), (1, vI l1)]) (Nat.le_of_ble_eq_true rfl) rfl dX6_readNumber_19 ?_
    refine gw_aload_n 1 rfl dX6_readNumber_20 ?_
    obtain ⟨v8, hv8, hB⟩ := gB1_some hB
    refine gw_getf (C := RX6) (T := TX6) (N := 13) (k := 11) gcl9 (by decide) in_X6 q2705 (gfR_spec hv8) dX6_readNumber_21 ?_
    refine gw_iload_n 2 rfl dX6_readNumber_24 ?_
    refine gw_iconst (v := (0 : Int32)) (by decide) dX6_readNumber_25 ?_
    obtain ⟨s9, hs9, hB⟩ := gB1_some hB
    refine gw_iastore hs9 dX6_readNumber_26 ?_
    exact gw_sub [1, 2, 0] rfl (w_X6_readNumber_27  F _ _ _ _ hB)
  · rw [if_neg hcnd] at hB
    refine gw_iconst (v := (0 : Int32)) (by decide) dX6_readNumber_9 ?_
    obtain ⟨u, hu, hB⟩ := gB1_some hB
    obtain ⟨rfl, rfl⟩ := Prod.mk.inj (Option.some.inj hB)
    exact gw_zret rfl hu rfl rfl dX6_readNumber_10
noncomputable def f_X6_readNumber (κ : gK) (F : Nat) (a0 : Option Nat) (a1 : Int32) (s : gS) : Option (Int32 × gS) := f_X6_readNumber_0 κ F a0 a1 s
theorem m_X6_readNumber {E : gE} {F : Nat} (a0 : Option Nat) (a1 : Int32) (s : gS) (r : Int32) (s' : gS) (h : f_X6_readNumber (gk E) F a0 a1 s = some (r, s')) : gCT E 3 yX6_readNumber (ws_ yX6_readNumber cX6_readNumber 3 (some FieldType.boolean)) [vR a0, vI a1] s (.inl (some (vI r))) s' := by
  refine gCT_of2 (fun h => absurd h (by decide)) (plainFor_of_name (by decide)) (Nat.le_of_ble_eq_true rfl) ?_
  exact gw_sub [0, 1] rfl (w_X6_readNumber_0 _ _ _ h)
