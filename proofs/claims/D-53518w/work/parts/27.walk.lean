set_option maxRecDepth 100000
def dkwX9_has_1 : List UInt8 := [160, 0, 7, 4, 167, 0, 4, 3, 172]
abbrev dktX9_has_1 : List UInt8 := dkwX9_has_1 ++ []
def dkwX9_has_0 : List UInt8 := [42, 27, 182, 0, 16, 61, 28, 42, 180, 0, 7, 190, 162, 0, 17, 42, 180, 0, 7, 28, 46, 27]
abbrev dktX9_has_0 : List UInt8 := dkwX9_has_0 ++ dktX9_has_1
theorem dksX9_has_0 : cX9_has.data.toList.drop 0 = dktX9_has_0 := by decide +kernel
theorem dksX9_has_1 : cX9_has.data.toList.drop 22 = dktX9_has_1 := dk_seg dksX9_has_0 22 rfl rfl
theorem dX9_has_0 : decode cX9_has 0 = .ok (.aload_n 0, 1) := dk_42 (dk_at dksX9_has_0 0 rfl rfl)
theorem dX9_has_1 : decode cX9_has 1 = .ok (.iload_n 1, 1) := dk_27 (dk_at dksX9_has_0 1 rfl rfl)
theorem dX9_has_2 : decode cX9_has 2 = .ok (.invokevirtual 16, 3) := dk_182 0 16 (dk_at dksX9_has_0 2 rfl rfl)
theorem dX9_has_5 : decode cX9_has 5 = .ok (.istore_n 2, 1) := dk_61 (dk_at dksX9_has_0 5 rfl rfl)
theorem dX9_has_6 : decode cX9_has 6 = .ok (.iload_n 2, 1) := dk_28 (dk_at dksX9_has_0 6 rfl rfl)
theorem dX9_has_7 : decode cX9_has 7 = .ok (.aload_n 0, 1) := dk_42 (dk_at dksX9_has_0 7 rfl rfl)
theorem dX9_has_8 : decode cX9_has 8 = .ok (.getfield 7, 3) := dk_180 0 7 (dk_at dksX9_has_0 8 rfl rfl)
theorem dX9_has_11 : decode cX9_has 11 = .ok (.arraylength, 1) := dk_190 (dk_at dksX9_has_0 11 rfl rfl)
theorem dX9_has_12 : decode cX9_has 12 = .ok (.if_icmp .ge 17, 3) := dk_162 0 17 (dk_at dksX9_has_0 12 rfl rfl)
theorem dX9_has_15 : decode cX9_has 15 = .ok (.aload_n 0, 1) := dk_42 (dk_at dksX9_has_0 15 rfl rfl)
theorem dX9_has_16 : decode cX9_has 16 = .ok (.getfield 7, 3) := dk_180 0 7 (dk_at dksX9_has_0 16 rfl rfl)
theorem dX9_has_19 : decode cX9_has 19 = .ok (.iload_n 2, 1) := dk_28 (dk_at dksX9_has_0 19 rfl rfl)
theorem dX9_has_20 : decode cX9_has 20 = .ok (.iaload, 1) := dk_46 (dk_at dksX9_has_0 20 rfl rfl)
theorem dX9_has_21 : decode cX9_has 21 = .ok (.iload_n 1, 1) := dk_27 (dk_at dksX9_has_0 21 rfl rfl)
theorem dX9_has_22 : decode cX9_has 22 = .ok (.if_icmp .ne 7, 3) := dk_160 0 7 (dk_at dksX9_has_1 0 rfl rfl)
theorem dX9_has_25 : decode cX9_has 25 = .ok (.iconst 1, 1) := dk_4 (dk_at dksX9_has_1 3 rfl rfl)
theorem dX9_has_26 : decode cX9_has 26 = .ok (.goto 4, 3) := dk_167 0 4 (dk_at dksX9_has_1 4 rfl rfl)
theorem dX9_has_29 : decode cX9_has 29 = .ok (.iconst 0, 1) := dk_3 (dk_at dksX9_has_1 7 rfl rfl)
theorem dX9_has_30 : decode cX9_has 30 = .ok (.ireturn, 1) := dk_172 (dk_at dksX9_has_1 8 rfl rfl)
/-! PageGarden$Leaf.has(I)Z -/
abbrev M_X9_has (z0 n0 : Nat) (s' : gS) : gM := (RX9, cX9_has, 3, (some FieldType.boolean), "has", [], 2, z0, n0, s'.2.1, s'.2.2)
abbrev W_X9_has (E : gE) (z0 n0 : Nat) (r : Int32) (s' : gS) (pc : Nat) (L : List (Nat × gV)) (st : List gV) (s : gS) : Prop := gW E (M_X9_has z0 n0 s') (gQm E (M_X9_has z0 n0 s') (.inl (some (vI r))) s') pc L st s
noncomputable def f_X9_has_30 (κ : gK) (F : Nat)  (t0 : Int32) (s : gS) : Option (Int32 × gS) :=
  gB1 (gok .boolean t0) fun _ => some (t0, s)
set_option maxHeartbeats 4000000 in
theorem w_X9_has_30 {E : gE} {F z0 n0 : Nat} {r : Int32} {s' : gS}   : ∀  (t0 : Int32) (s : gS), f_X9_has_30 (gk E) F  t0 s = some (r, s') → W_X9_has E z0 n0 r s' 30 [] [vI t0] s := by
  intro t0 s hB
  unfold f_X9_has_30 at hB
  obtain ⟨u, hu, hB⟩ := gB1_some hB
  obtain ⟨rfl, rfl⟩ := Prod.mk.inj (Option.some.inj hB)
  exact gw_zret rfl hu rfl rfl dX9_has_30
noncomputable def f_X9_has_29 (κ : gK) (F : Nat)   (s : gS) : Option (Int32 × gS) :=
  f_X9_has_30 κ F  (0 : Int32) s
set_option maxHeartbeats 4000000 in
theorem w_X9_has_29 {E : gE} {F z0 n0 : Nat} {r : Int32} {s' : gS}   : ∀   (s : gS), f_X9_has_29 (gk E) F   s = some (r, s') → W_X9_has E z0 n0 r s' 29 [] [] s := by
  intro  s hB
  unfold f_X9_has_29 at hB
  refine gw_iconst (v := (0 : Int32)) (by decide) dX9_has_29 ?_
  exact gw_sub [] rfl (w_X9_has_30  _ _ hB)
noncomputable def f_X9_has_0 (κ : gK) (F : Nat)  (l0 : Option Nat) (l1 : Int32) (s : gS) : Option (Int32 × gS) :=
  gB1 (gck s l0 2) fun _ =>
  gB2 (f_X9_placeOf κ F l0 l1 s) fun v2 s1 =>
  gB1 (gfR s1 l0 2 0) fun v4 =>
  gB1 (gal s1 v4) fun v5 =>
  if v5 ≤ v2 then
    f_X9_has_29 κ F  s1
  else
    gB1 (gfR s1 l0 2 0) fun v6 =>
    gB1 (gaI s1 v6 0 v2) fun v7 =>
    if v7 = l1 then
      f_X9_has_30 κ F  (1 : Int32) s1
    else
      f_X9_has_29 κ F  s1
set_option maxHeartbeats 4000000 in
theorem w_X9_has_0 {E : gE} {F z0 n0 : Nat} {r : Int32} {s' : gS}   : ∀ (l0 : Option Nat) (l1 : Int32)  (s : gS), f_X9_has_0 (gk E) F  l0 l1 s = some (r, s') → W_X9_has E z0 n0 r s' 0 [(0, vR l0), (1, vI l1)] [] s := by
  intro l0 l1 s hB
  unfold f_X9_has_0 at hB
  refine gw_aload_n 0 rfl dX9_has_0 ?_
  refine gw_iload_n 1 rfl dX9_has_1 ?_
  obtain ⟨u0, hu3, hB⟩ := gB1_some hB
  obtain ⟨v2, s1, hv2, hB⟩ := gB2_some hB
  refine gw_callV (y := yX9_placeOf) (lw_V q2067 q2068 q2069 q160 q2070) hdV_X9_placeOf gcl2 hu3 (As := [vI l1]) (rest := []) (m_X9_placeOf _ _ _ _ _ hv2) (Nat.le_of_ble_eq_true rfl) (Nat.le_of_ble_eq_true rfl) rfl (Nat.le_of_ble_eq_true rfl) dX9_has_2 (gCont_i ?_)
  refine gw_istore_n (L' := [(2, vI v2), (0, vR l0), (1, vI l1)]) (Nat.le_of_ble_eq_true rfl) rfl dX9_has_5 ?_
  refine gw_iload_n 0 rfl dX9_has_6 ?_
  refine gw_aload_n 1 rfl dX9_has_7 ?_
  obtain ⟨v4, hv4, hB⟩ := gB1_some hB
  refine gw_getf (C := RX9) (T := TX9) (N := 2) (k := 0) gcl2 (by decide) in_X9 q2170 (gfR_spec hv4) dX9_has_8 ?_
  obtain ⟨v5, hv5, hB⟩ := gB1_some hB
  refine gw_alen hv5 dX9_has_11 ?_
  refine gw_icmp_ge (tgt := 29) dX9_has_12 (by decide) (fun hcnd => ?_) (fun hcnd => ?_)
  · rw [if_pos hcnd] at hB
    exact gw_sub [] rfl (w_X9_has_29   _ hB)
  · rw [if_neg hcnd] at hB
    refine gw_aload_n 1 rfl dX9_has_15 ?_
    obtain ⟨v6, hv6, hB⟩ := gB1_some hB
    refine gw_getf (C := RX9) (T := TX9) (N := 2) (k := 0) gcl2 (by decide) in_X9 q2170 (gfR_spec hv6) dX9_has_16 ?_
    refine gw_iload_n 0 rfl dX9_has_19 ?_
    obtain ⟨v7, hv7, hB⟩ := gB1_some hB
    refine gw_iaload hv7 dX9_has_20 ?_
    refine gw_iload_n 2 rfl dX9_has_21 ?_
    refine gw_icmp_ne (tgt := 29) dX9_has_22 (by decide) (fun hcnd => ?_) (fun hcnd => ?_)
    · rw [if_neg hcnd] at hB
      exact gw_sub [] rfl (w_X9_has_29   _ hB)
    · rw [if_pos hcnd] at hB
      refine gw_iconst (v := (1 : Int32)) (by decide) dX9_has_25 ?_
      refine gw_goto (tgt := 30) dX9_has_26 (by decide) ?_
      exact gw_sub [] rfl (w_X9_has_30  _ _ hB)
noncomputable def f_X9_has (κ : gK) (F : Nat) (a0 : Option Nat) (a1 : Int32) (s : gS) : Option (Int32 × gS) := f_X9_has_0 κ F a0 a1 s
theorem m_X9_has {E : gE} {F : Nat} (a0 : Option Nat) (a1 : Int32) (s : gS) (r : Int32) (s' : gS) (h : f_X9_has (gk E) F a0 a1 s = some (r, s')) : gCT E 2 yX9_has (ws_ yX9_has cX9_has 3 (some FieldType.boolean)) [vR a0, vI a1] s (.inl (some (vI r))) s' := by
  refine gCT_of2 (fun h => absurd h (by decide)) (plainFor_of_name (by decide)) (Nat.le_of_ble_eq_true rfl) ?_
  exact gw_sub [0, 1] rfl (w_X9_has_0 _ _ _ h)
def dkwX3_splits_2 : List UInt8 := [3, 172]
abbrev dktX3_splits_2 : List UInt8 := dkwX3_splits_2 ++ []
def dkwX3_splits_1 : List UInt8 := [182, 0, 116, 78, 45, 28, 182, 0, 131, 154, 0, 15, 45, 182, 0, 249, 7, 160, 0, 7, 4, 167, 0, 4]
abbrev dktX3_splits_1 : List UInt8 := dkwX3_splits_1 ++ dktX3_splits_2
def dkwX3_splits_0 : List UInt8 := [43, 180, 0, 113, 190, 154, 0, 5, 3, 172, 42, 43, 180, 0, 113, 42, 43, 28, 182, 0, 127, 46]
abbrev dktX3_splits_0 : List UInt8 := dkwX3_splits_0 ++ dktX3_splits_1
theorem dksX3_splits_0 : cX3_splits.data.toList.drop 0 = dktX3_splits_0 := by decide +kernel
theorem dksX3_splits_1 : cX3_splits.data.toList.drop 22 = dktX3_splits_1 := dk_seg dksX3_splits_0 22 rfl rfl
theorem dksX3_splits_2 : cX3_splits.data.toList.drop 46 = dktX3_splits_2 := dk_seg dksX3_splits_1 24 rfl rfl
theorem dX3_splits_0 : decode cX3_splits 0 = .ok (.aload_n 1, 1) := dk_43 (dk_at dksX3_splits_0 0 rfl rfl)
theorem dX3_splits_1 : decode cX3_splits 1 = .ok (.getfield 113, 3) := dk_180 0 113 (dk_at dksX3_splits_0 1 rfl rfl)
theorem dX3_splits_4 : decode cX3_splits 4 = .ok (.arraylength, 1) := dk_190 (dk_at dksX3_splits_0 4 rfl rfl)
theorem dX3_splits_5 : decode cX3_splits 5 = .ok (.ifCond .ne 5, 3) := dk_154 0 5 (dk_at dksX3_splits_0 5 rfl rfl)
theorem dX3_splits_8 : decode cX3_splits 8 = .ok (.iconst 0, 1) := dk_3 (dk_at dksX3_splits_0 8 rfl rfl)
theorem dX3_splits_9 : decode cX3_splits 9 = .ok (.ireturn, 1) := dk_172 (dk_at dksX3_splits_0 9 rfl rfl)
theorem dX3_splits_10 : decode cX3_splits 10 = .ok (.aload_n 0, 1) := dk_42 (dk_at dksX3_splits_0 10 rfl rfl)
theorem dX3_splits_11 : decode cX3_splits 11 = .ok (.aload_n 1, 1) := dk_43 (dk_at dksX3_splits_0 11 rfl rfl)
theorem dX3_splits_12 : decode cX3_splits 12 = .ok (.getfield 113, 3) := dk_180 0 113 (dk_at dksX3_splits_0 12 rfl rfl)
theorem dX3_splits_15 : decode cX3_splits 15 = .ok (.aload_n 0, 1) := dk_42 (dk_at dksX3_splits_0 15 rfl rfl)
theorem dX3_splits_16 : decode cX3_splits 16 = .ok (.aload_n 1, 1) := dk_43 (dk_at dksX3_splits_0 16 rfl rfl)
theorem dX3_splits_17 : decode cX3_splits 17 = .ok (.iload_n 2, 1) := dk_28 (dk_at dksX3_splits_0 17 rfl rfl)
theorem dX3_splits_18 : decode cX3_splits 18 = .ok (.invokevirtual 127, 3) := dk_182 0 127 (dk_at dksX3_splits_0 18 rfl rfl)
theorem dX3_splits_21 : decode cX3_splits 21 = .ok (.iaload, 1) := dk_46 (dk_at dksX3_splits_0 21 rfl rfl)
theorem dX3_splits_22 : decode cX3_splits 22 = .ok (.invokevirtual 116, 3) := dk_182 0 116 (dk_at dksX3_splits_1 0 rfl rfl)
theorem dX3_splits_25 : decode cX3_splits 25 = .ok (.astore_n 3, 1) := dk_78 (dk_at dksX3_splits_1 3 rfl rfl)
theorem dX3_splits_26 : decode cX3_splits 26 = .ok (.aload_n 3, 1) := dk_45 (dk_at dksX3_splits_1 4 rfl rfl)
theorem dX3_splits_27 : decode cX3_splits 27 = .ok (.iload_n 2, 1) := dk_28 (dk_at dksX3_splits_1 5 rfl rfl)
theorem dX3_splits_28 : decode cX3_splits 28 = .ok (.invokevirtual 131, 3) := dk_182 0 131 (dk_at dksX3_splits_1 6 rfl rfl)
theorem dX3_splits_31 : decode cX3_splits 31 = .ok (.ifCond .ne 15, 3) := dk_154 0 15 (dk_at dksX3_splits_1 9 rfl rfl)
theorem dX3_splits_34 : decode cX3_splits 34 = .ok (.aload_n 3, 1) := dk_45 (dk_at dksX3_splits_1 12 rfl rfl)
theorem dX3_splits_35 : decode cX3_splits 35 = .ok (.invokevirtual 249, 3) := dk_182 0 249 (dk_at dksX3_splits_1 13 rfl rfl)
theorem dX3_splits_38 : decode cX3_splits 38 = .ok (.iconst 4, 1) := dk_7 (dk_at dksX3_splits_1 16 rfl rfl)
theorem dX3_splits_39 : decode cX3_splits 39 = .ok (.if_icmp .ne 7, 3) := dk_160 0 7 (dk_at dksX3_splits_1 17 rfl rfl)
theorem dX3_splits_42 : decode cX3_splits 42 = .ok (.iconst 1, 1) := dk_4 (dk_at dksX3_splits_1 20 rfl rfl)
theorem dX3_splits_43 : decode cX3_splits 43 = .ok (.goto 4, 3) := dk_167 0 4 (dk_at dksX3_splits_1 21 rfl rfl)
theorem dX3_splits_46 : decode cX3_splits 46 = .ok (.iconst 0, 1) := dk_3 (dk_at dksX3_splits_2 0 rfl rfl)
theorem dX3_splits_47 : decode cX3_splits 47 = .ok (.ireturn, 1) := dk_172 (dk_at dksX3_splits_2 1 rfl rfl)
/-! PageGarden$Garden.splits(LPageGarden$Directory;I)Z -/
abbrev M_X3_splits (z0 n0 : Nat) (s' : gS) : gM := (RX3, cX3_splits, 4, (some FieldType.boolean), "splits", [], 8, z0, n0, s'.2.1, s'.2.2)
abbrev W_X3_splits (E : gE) (z0 n0 : Nat) (r : Int32) (s' : gS) (pc : Nat) (L : List (Nat × gV)) (st : List gV) (s : gS) : Prop := gW E (M_X3_splits z0 n0 s') (gQm E (M_X3_splits z0 n0 s') (.inl (some (vI r))) s') pc L st s
noncomputable def f_X3_splits_47 (κ : gK) (F : Nat)  (t0 : Int32) (s : gS) : Option (Int32 × gS) :=
  gB1 (gok .boolean t0) fun _ => some (t0, s)
set_option maxHeartbeats 4000000 in
theorem w_X3_splits_47 {E : gE} {F z0 n0 : Nat} {r : Int32} {s' : gS}   : ∀  (t0 : Int32) (s : gS), f_X3_splits_47 (gk E) F  t0 s = some (r, s') → W_X3_splits E z0 n0 r s' 47 [] [vI t0] s := by
  intro t0 s hB
  unfold f_X3_splits_47 at hB
  obtain ⟨u, hu, hB⟩ := gB1_some hB
  obtain ⟨rfl, rfl⟩ := Prod.mk.inj (Option.some.inj hB)
  exact gw_zret rfl hu rfl rfl dX3_splits_47
noncomputable def f_X3_splits_46 (κ : gK) (F : Nat)   (s : gS) : Option (Int32 × gS) :=
  f_X3_splits_47 κ F  (0 : Int32) s
set_option maxHeartbeats 4000000 in
theorem w_X3_splits_46 {E : gE} {F z0 n0 : Nat} {r : Int32} {s' : gS}   : ∀   (s : gS), f_X3_splits_46 (gk E) F   s = some (r, s') → W_X3_splits E z0 n0 r s' 46 [] [] s := by
  intro  s hB
  unfold f_X3_splits_46 at hB
  refine gw_iconst (v := (0 : Int32)) (by decide) dX3_splits_46 ?_
  exact gw_sub [] rfl (w_X3_splits_47  _ _ hB)
noncomputable def f_X3_splits_0 (κ : gK) (F : Nat)  (l0 : Option Nat) (l1 : Option Nat) (l2 : Int32) (s : gS) : Option (Int32 × gS) :=
  gB1 (gfR s l1 3 0) fun v1 =>
  gB1 (gal s v1) fun v2 =>
  if v2 = 0 then
    gB1 (gok .boolean (0 : Int32)) fun _ => some ((0 : Int32), s)
  else
    gB1 (gfR s l1 3 0) fun v3 =>
    gB1 (gck s l0 7) fun _ =>
    gB2 (f_X3_placeOf κ F l0 l1 l2 s) fun v5 s4 =>
    gB1 (gaI s4 v3 0 v5) fun v7 =>
    gB1 (gck s4 l0 7) fun _ =>
    gB2 (f_X3_leaf κ F l0 v7 s4) fun v9 s8 =>
    gB1 (gck s8 v9 2) fun _ =>
    gB2 (f_X9_has κ F v9 l2 s8) fun v12 s11 =>
    if v12 = 0 then
      gB1 (gck s11 v9 2) fun _ =>
      gB2 (f_X9_size κ F v9  s11) fun v15 s14 =>
      if v15 = (4 : Int32) then
        f_X3_splits_47 κ F  (1 : Int32) s14
      else
        f_X3_splits_46 κ F  s14
    else
      f_X3_splits_46 κ F  s11
set_option maxHeartbeats 4000000 in
theorem w_X3_splits_0 {E : gE} {F z0 n0 : Nat} {r : Int32} {s' : gS}   : ∀ (l0 : Option Nat) (l1 : Option Nat) (l2 : Int32)  (s : gS), f_X3_splits_0 (gk E) F  l0 l1 l2 s = some (r, s') → W_X3_splits E z0 n0 r s' 0 [(0, vR l0), (1, vR l1), (2, vI l2)] [] s := by
  intro l0 l1 l2 s hB
  unfold f_X3_splits_0 at hB
  refine gw_aload_n 1 rfl dX3_splits_0 ?_
  obtain ⟨v1, hv1, hB⟩ := gB1_some hB
  refine gw_getfN (C := RX5) (T := TX5) (N := 1) (k := 0) gcl3 (by decide) in_X5 q321 (gfR_spec hv1) dX3_splits_1 ?_
  obtain ⟨v2, hv2, hB⟩ := gB1_some hB
  refine gw_alen hv2 dX3_splits_4 ?_
  refine gw_if_ne (tgt := 10) dX3_splits_5 (by decide) (fun hcnd => ?_) (fun hcnd => ?_)
  · rw [if_neg hcnd] at hB
    refine gw_aload_n 0 rfl dX3_splits_10 ?_
    refine gw_aload_n 1 rfl dX3_splits_11 ?_
    obtain ⟨v3, hv3, hB⟩ := gB1_some hB
    refine gw_getfN (C := RX5) (T := TX5) (N := 1) (k := 0) gcl3 (by decide) in_X5 q321 (gfR_spec hv3) dX3_splits_12 ?_
    refine gw_aload_n 0 rfl dX3_splits_15 ?_
    refine gw_aload_n 1 rfl dX3_splits_16 ?_
    refine gw_iload_n 2 rfl dX3_splits_17 ?_
    obtain ⟨u0, hu6, hB⟩ := gB1_some hB
    obtain ⟨v5, s4, hv5, hB⟩ := gB2_some hB
    refine gw_callV (y := yX3_placeOf) (lw_V q2053 q2055 qs25 q110 q2056) hdV_X3_placeOf gcl7 hu6 (As := [vR l1, vI l2]) (rest := [vR v3, vR l0]) (m_X3_placeOf _ _ _ _ _ _ hv5) (Nat.le_of_ble_eq_true rfl) (Nat.le_of_ble_eq_true rfl) rfl (Nat.le_of_ble_eq_true rfl) dX3_splits_18 (gCont_i ?_)
    obtain ⟨v7, hv7, hB⟩ := gB1_some hB
    refine gw_iaload hv7 dX3_splits_21 ?_
    obtain ⟨u0, hu10, hB⟩ := gB1_some hB
    obtain ⟨v9, s8, hv9, hB⟩ := gB2_some hB
    refine gw_callV (y := yX3_leaf) (lw_V q2057 q2059 qs26 q110 q2060) hdV_X3_leaf gcl7 hu10 (As := [vI v7]) (rest := []) (m_X3_leaf _ _ _ _ _ hv9) (Nat.le_of_ble_eq_true rfl) (Nat.le_of_ble_eq_true rfl) rfl (Nat.le_of_ble_eq_true rfl) dX3_splits_22 (gCont_i ?_)
    refine gw_astore_n (L' := [(3, vR v9), (0, vR l0), (1, vR l1), (2, vI l2)]) (Nat.le_of_ble_eq_true rfl) rfl dX3_splits_25 ?_
    refine gw_aload_n 0 rfl dX3_splits_26 ?_
    refine gw_iload_n 3 rfl dX3_splits_27 ?_
    obtain ⟨u0, hu13, hB⟩ := gB1_some hB
    obtain ⟨v12, s11, hv12, hB⟩ := gB2_some hB
    refine gw_callV (y := yX9_has) (lw_V q2063 q2064 q2065 q160 q2066) hdV_X9_has gcl2 hu13 (As := [vI l2]) (rest := []) (m_X9_has _ _ _ _ _ hv12) (Nat.le_of_ble_eq_true rfl) (Nat.le_of_ble_eq_true rfl) rfl (Nat.le_of_ble_eq_true rfl) dX3_splits_28 (gCont_i ?_)
    refine gw_if_ne (tgt := 46) dX3_splits_31 (by decide) (fun hcnd => ?_) (fun hcnd => ?_)
    · rw [if_neg hcnd] at hB
      exact gw_sub [] rfl (w_X3_splits_46   _ hB)
    · rw [if_pos hcnd] at hB
      refine gw_aload_n 0 rfl dX3_splits_34 ?_
      obtain ⟨u0, hu16, hB⟩ := gB1_some hB
      obtain ⟨v15, s14, hv15, hB⟩ := gB2_some hB
      refine gw_callV (y := yX9_size) (lw_V q2071 q2072 q2073 q160 q2074) hdV_X9_size gcl2 hu16 (As := []) (rest := []) (m_X9_size _ _ _ _ hv15) (Nat.le_of_ble_eq_true rfl) (Nat.le_of_ble_eq_true rfl) rfl (Nat.le_of_ble_eq_true rfl) dX3_splits_35 (gCont_i ?_)
      refine gw_iconst (v := (4 : Int32)) (by decide) dX3_splits_38 ?_
      refine gw_icmp_ne (tgt := 46) dX3_splits_39 (by decide) (fun hcnd => ?_) (fun hcnd => ?_)
      · rw [if_neg hcnd] at hB
        exact gw_sub [] rfl (w_X3_splits_46   _ hB)
      · rw [if_pos hcnd] at hB
        refine gw_iconst (v := (1 : Int32)) (by decide) dX3_splits_42 ?_
        refine gw_goto (tgt := 47) dX3_splits_43 (by decide) ?_
        exact gw_sub [] rfl (w_X3_splits_47  _ _ hB)
  · rw [if_pos hcnd] at hB
    refine gw_iconst (v := (0 : Int32)) (by decide) dX3_splits_8 ?_
    obtain ⟨u, hu, hB⟩ := gB1_some hB
    obtain ⟨rfl, rfl⟩ := Prod.mk.inj (Option.some.inj hB)
    exact gw_zret rfl hu rfl rfl dX3_splits_9
noncomputable def f_X3_splits (κ : gK) (F : Nat) (a0 : Option Nat) (a1 : Option Nat) (a2 : Int32) (s : gS) : Option (Int32 × gS) := f_X3_splits_0 κ F a0 a1 a2 s
theorem m_X3_splits {E : gE} {F : Nat} (a0 : Option Nat) (a1 : Option Nat) (a2 : Int32) (s : gS) (r : Int32) (s' : gS) (h : f_X3_splits (gk E) F a0 a1 a2 s = some (r, s')) : gCT E 8 yX3_splits (ws_ yX3_splits cX3_splits 4 (some FieldType.boolean)) [vR a0, vR a1, vI a2] s (.inl (some (vI r))) s' := by
  refine gCT_of2 (fun h => absurd h (by decide)) (plainFor_of_name (by decide)) (Nat.le_of_ble_eq_true rfl) ?_
  exact gw_sub [0, 1, 2] rfl (w_X3_splits_0 _ _ _ _ h)
def dkwX3_bedsFor_5 : List UInt8 := [3, 96, 29, 153, 0, 7, 4, 167, 0, 4, 3, 96, 172]
abbrev dktX3_bedsFor_5 : List UInt8 := dkwX3_bedsFor_5 ++ []
def dkwX3_bedsFor_4 : List UInt8 := [182, 0, 207, 154, 0, 7, 4, 167, 0, 4, 3, 54, 5, 21, 4, 21, 5, 153, 0, 7, 4, 167, 0, 4]
abbrev dktX3_bedsFor_4 : List UInt8 := dkwX3_bedsFor_4 ++ dktX3_bedsFor_5
def dkwX3_bedsFor_3 : List UInt8 := [154, 0, 8, 21, 4, 4, 96, 172, 42, 180, 0, 80, 44, 180, 0, 113, 42, 44, 27, 182, 0, 127, 46]
abbrev dktX3_bedsFor_3 : List UInt8 := dkwX3_bedsFor_3 ++ dktX3_bedsFor_4
def dkwX3_bedsFor_2 : List UInt8 := [180, 0, 80, 180, 0, 230, 182, 0, 207, 153, 0, 7, 3, 167, 0, 4, 4, 54, 4, 44, 180, 0, 113, 190]
abbrev dktX3_bedsFor_2 : List UInt8 := dkwX3_bedsFor_2 ++ dktX3_bedsFor_3
def dkwX3_bedsFor_1 : List UInt8 := [153, 0, 17, 44, 180, 0, 113, 190, 16, 6, 160, 0, 7, 17, 252, 24, 172, 42, 180, 0, 80, 42]
abbrev dktX3_bedsFor_1 : List UInt8 := dkwX3_bedsFor_1 ++ dktX3_bedsFor_2
def dkwX3_bedsFor_0 : List UInt8 := [42, 182, 0, 227, 42, 42, 180, 0, 80, 180, 0, 230, 182, 0, 123, 77, 42, 44, 27, 182, 0, 250, 62, 29]
abbrev dktX3_bedsFor_0 : List UInt8 := dkwX3_bedsFor_0 ++ dktX3_bedsFor_1
theorem dksX3_bedsFor_0 : cX3_bedsFor.data.toList.drop 0 = dktX3_bedsFor_0 := by decide +kernel
theorem dksX3_bedsFor_1 : cX3_bedsFor.data.toList.drop 24 = dktX3_bedsFor_1 := dk_seg dksX3_bedsFor_0 24 rfl rfl
theorem dksX3_bedsFor_2 : cX3_bedsFor.data.toList.drop 46 = dktX3_bedsFor_2 := dk_seg dksX3_bedsFor_1 22 rfl rfl
theorem dksX3_bedsFor_3 : cX3_bedsFor.data.toList.drop 70 = dktX3_bedsFor_3 := dk_seg dksX3_bedsFor_2 24 rfl rfl
theorem dksX3_bedsFor_4 : cX3_bedsFor.data.toList.drop 93 = dktX3_bedsFor_4 := dk_seg dksX3_bedsFor_3 23 rfl rfl
theorem dksX3_bedsFor_5 : cX3_bedsFor.data.toList.drop 117 = dktX3_bedsFor_5 := dk_seg dksX3_bedsFor_4 24 rfl rfl
theorem dX3_bedsFor_0 : decode cX3_bedsFor 0 = .ok (.aload_n 0, 1) := dk_42 (dk_at dksX3_bedsFor_0 0 rfl rfl)
theorem dX3_bedsFor_1 : decode cX3_bedsFor 1 = .ok (.invokevirtual 227, 3) := dk_182 0 227 (dk_at dksX3_bedsFor_0 1 rfl rfl)
theorem dX3_bedsFor_4 : decode cX3_bedsFor 4 = .ok (.aload_n 0, 1) := dk_42 (dk_at dksX3_bedsFor_0 4 rfl rfl)
theorem dX3_bedsFor_5 : decode cX3_bedsFor 5 = .ok (.aload_n 0, 1) := dk_42 (dk_at dksX3_bedsFor_0 5 rfl rfl)
theorem dX3_bedsFor_6 : decode cX3_bedsFor 6 = .ok (.getfield 80, 3) := dk_180 0 80 (dk_at dksX3_bedsFor_0 6 rfl rfl)
theorem dX3_bedsFor_9 : decode cX3_bedsFor 9 = .ok (.getfield 230, 3) := dk_180 0 230 (dk_at dksX3_bedsFor_0 9 rfl rfl)
theorem dX3_bedsFor_12 : decode cX3_bedsFor 12 = .ok (.invokevirtual 123, 3) := dk_182 0 123 (dk_at dksX3_bedsFor_0 12 rfl rfl)
theorem dX3_bedsFor_15 : decode cX3_bedsFor 15 = .ok (.astore_n 2, 1) := dk_77 (dk_at dksX3_bedsFor_0 15 rfl rfl)
theorem dX3_bedsFor_16 : decode cX3_bedsFor 16 = .ok (.aload_n 0, 1) := dk_42 (dk_at dksX3_bedsFor_0 16 rfl rfl)
theorem dX3_bedsFor_17 : decode cX3_bedsFor 17 = .ok (.aload_n 2, 1) := dk_44 (dk_at dksX3_bedsFor_0 17 rfl rfl)
theorem dX3_bedsFor_18 : decode cX3_bedsFor 18 = .ok (.iload_n 1, 1) := dk_27 (dk_at dksX3_bedsFor_0 18 rfl rfl)
theorem dX3_bedsFor_19 : decode cX3_bedsFor 19 = .ok (.invokevirtual 250, 3) := dk_182 0 250 (dk_at dksX3_bedsFor_0 19 rfl rfl)
theorem dX3_bedsFor_22 : decode cX3_bedsFor 22 = .ok (.istore_n 3, 1) := dk_62 (dk_at dksX3_bedsFor_0 22 rfl rfl)
theorem dX3_bedsFor_23 : decode cX3_bedsFor 23 = .ok (.iload_n 3, 1) := dk_29 (dk_at dksX3_bedsFor_0 23 rfl rfl)
theorem dX3_bedsFor_24 : decode cX3_bedsFor 24 = .ok (.ifCond .eq 17, 3) := dk_153 0 17 (dk_at dksX3_bedsFor_1 0 rfl rfl)
theorem dX3_bedsFor_27 : decode cX3_bedsFor 27 = .ok (.aload_n 2, 1) := dk_44 (dk_at dksX3_bedsFor_1 3 rfl rfl)
theorem dX3_bedsFor_28 : decode cX3_bedsFor 28 = .ok (.getfield 113, 3) := dk_180 0 113 (dk_at dksX3_bedsFor_1 4 rfl rfl)
theorem dX3_bedsFor_31 : decode cX3_bedsFor 31 = .ok (.arraylength, 1) := dk_190 (dk_at dksX3_bedsFor_1 7 rfl rfl)
theorem dX3_bedsFor_32 : decode cX3_bedsFor 32 = .ok (.bipush 6, 2) := dk_16 6 (dk_at dksX3_bedsFor_1 8 rfl rfl)
theorem dX3_bedsFor_34 : decode cX3_bedsFor 34 = .ok (.if_icmp .ne 7, 3) := dk_160 0 7 (dk_at dksX3_bedsFor_1 10 rfl rfl)
theorem dX3_bedsFor_37 : decode cX3_bedsFor 37 = .ok (.sipush (-1000), 3) := dk_17 252 24 (dk_at dksX3_bedsFor_1 13 rfl rfl)
theorem dX3_bedsFor_40 : decode cX3_bedsFor 40 = .ok (.ireturn, 1) := dk_172 (dk_at dksX3_bedsFor_1 16 rfl rfl)
theorem dX3_bedsFor_41 : decode cX3_bedsFor 41 = .ok (.aload_n 0, 1) := dk_42 (dk_at dksX3_bedsFor_1 17 rfl rfl)
theorem dX3_bedsFor_42 : decode cX3_bedsFor 42 = .ok (.getfield 80, 3) := dk_180 0 80 (dk_at dksX3_bedsFor_1 18 rfl rfl)
theorem dX3_bedsFor_45 : decode cX3_bedsFor 45 = .ok (.aload_n 0, 1) := dk_42 (dk_at dksX3_bedsFor_1 21 rfl rfl)
theorem dX3_bedsFor_46 : decode cX3_bedsFor 46 = .ok (.getfield 80, 3) := dk_180 0 80 (dk_at dksX3_bedsFor_2 0 rfl rfl)
theorem dX3_bedsFor_49 : decode cX3_bedsFor 49 = .ok (.getfield 230, 3) := dk_180 0 230 (dk_at dksX3_bedsFor_2 3 rfl rfl)
theorem dX3_bedsFor_52 : decode cX3_bedsFor 52 = .ok (.invokevirtual 207, 3) := dk_182 0 207 (dk_at dksX3_bedsFor_2 6 rfl rfl)
theorem dX3_bedsFor_55 : decode cX3_bedsFor 55 = .ok (.ifCond .eq 7, 3) := dk_153 0 7 (dk_at dksX3_bedsFor_2 9 rfl rfl)
theorem dX3_bedsFor_58 : decode cX3_bedsFor 58 = .ok (.iconst 0, 1) := dk_3 (dk_at dksX3_bedsFor_2 12 rfl rfl)
theorem dX3_bedsFor_59 : decode cX3_bedsFor 59 = .ok (.goto 4, 3) := dk_167 0 4 (dk_at dksX3_bedsFor_2 13 rfl rfl)
theorem dX3_bedsFor_62 : decode cX3_bedsFor 62 = .ok (.iconst 1, 1) := dk_4 (dk_at dksX3_bedsFor_2 16 rfl rfl)
theorem dX3_bedsFor_63 : decode cX3_bedsFor 63 = .ok (.istore 4, 2) := dk_54 4 (dk_at dksX3_bedsFor_2 17 rfl rfl)
theorem dX3_bedsFor_65 : decode cX3_bedsFor 65 = .ok (.aload_n 2, 1) := dk_44 (dk_at dksX3_bedsFor_2 19 rfl rfl)
theorem dX3_bedsFor_66 : decode cX3_bedsFor 66 = .ok (.getfield 113, 3) := dk_180 0 113 (dk_at dksX3_bedsFor_2 20 rfl rfl)
theorem dX3_bedsFor_69 : decode cX3_bedsFor 69 = .ok (.arraylength, 1) := dk_190 (dk_at dksX3_bedsFor_2 23 rfl rfl)
theorem dX3_bedsFor_70 : decode cX3_bedsFor 70 = .ok (.ifCond .ne 8, 3) := dk_154 0 8 (dk_at dksX3_bedsFor_3 0 rfl rfl)
theorem dX3_bedsFor_73 : decode cX3_bedsFor 73 = .ok (.iload 4, 2) := dk_21 4 (dk_at dksX3_bedsFor_3 3 rfl rfl)
theorem dX3_bedsFor_75 : decode cX3_bedsFor 75 = .ok (.iconst 1, 1) := dk_4 (dk_at dksX3_bedsFor_3 5 rfl rfl)
theorem dX3_bedsFor_76 : decode cX3_bedsFor 76 = .ok (.iadd, 1) := dk_96 (dk_at dksX3_bedsFor_3 6 rfl rfl)
theorem dX3_bedsFor_77 : decode cX3_bedsFor 77 = .ok (.ireturn, 1) := dk_172 (dk_at dksX3_bedsFor_3 7 rfl rfl)
theorem dX3_bedsFor_78 : decode cX3_bedsFor 78 = .ok (.aload_n 0, 1) := dk_42 (dk_at dksX3_bedsFor_3 8 rfl rfl)
theorem dX3_bedsFor_79 : decode cX3_bedsFor 79 = .ok (.getfield 80, 3) := dk_180 0 80 (dk_at dksX3_bedsFor_3 9 rfl rfl)
theorem dX3_bedsFor_82 : decode cX3_bedsFor 82 = .ok (.aload_n 2, 1) := dk_44 (dk_at dksX3_bedsFor_3 12 rfl rfl)
theorem dX3_bedsFor_83 : decode cX3_bedsFor 83 = .ok (.getfield 113, 3) := dk_180 0 113 (dk_at dksX3_bedsFor_3 13 rfl rfl)
theorem dX3_bedsFor_86 : decode cX3_bedsFor 86 = .ok (.aload_n 0, 1) := dk_42 (dk_at dksX3_bedsFor_3 16 rfl rfl)
theorem dX3_bedsFor_87 : decode cX3_bedsFor 87 = .ok (.aload_n 2, 1) := dk_44 (dk_at dksX3_bedsFor_3 17 rfl rfl)
theorem dX3_bedsFor_88 : decode cX3_bedsFor 88 = .ok (.iload_n 1, 1) := dk_27 (dk_at dksX3_bedsFor_3 18 rfl rfl)
theorem dX3_bedsFor_89 : decode cX3_bedsFor 89 = .ok (.invokevirtual 127, 3) := dk_182 0 127 (dk_at dksX3_bedsFor_3 19 rfl rfl)
theorem dX3_bedsFor_92 : decode cX3_bedsFor 92 = .ok (.iaload, 1) := dk_46 (dk_at dksX3_bedsFor_3 22 rfl rfl)
theorem dX3_bedsFor_93 : decode cX3_bedsFor 93 = .ok (.invokevirtual 207, 3) := dk_182 0 207 (dk_at dksX3_bedsFor_4 0 rfl rfl)
theorem dX3_bedsFor_96 : decode cX3_bedsFor 96 = .ok (.ifCond .ne 7, 3) := dk_154 0 7 (dk_at dksX3_bedsFor_4 3 rfl rfl)
theorem dX3_bedsFor_99 : decode cX3_bedsFor 99 = .ok (.iconst 1, 1) := dk_4 (dk_at dksX3_bedsFor_4 6 rfl rfl)
theorem dX3_bedsFor_100 : decode cX3_bedsFor 100 = .ok (.goto 4, 3) := dk_167 0 4 (dk_at dksX3_bedsFor_4 7 rfl rfl)
theorem dX3_bedsFor_103 : decode cX3_bedsFor 103 = .ok (.iconst 0, 1) := dk_3 (dk_at dksX3_bedsFor_4 10 rfl rfl)
theorem dX3_bedsFor_104 : decode cX3_bedsFor 104 = .ok (.istore 5, 2) := dk_54 5 (dk_at dksX3_bedsFor_4 11 rfl rfl)
theorem dX3_bedsFor_106 : decode cX3_bedsFor 106 = .ok (.iload 4, 2) := dk_21 4 (dk_at dksX3_bedsFor_4 13 rfl rfl)
theorem dX3_bedsFor_108 : decode cX3_bedsFor 108 = .ok (.iload 5, 2) := dk_21 5 (dk_at dksX3_bedsFor_4 15 rfl rfl)
theorem dX3_bedsFor_110 : decode cX3_bedsFor 110 = .ok (.ifCond .eq 7, 3) := dk_153 0 7 (dk_at dksX3_bedsFor_4 17 rfl rfl)
theorem dX3_bedsFor_113 : decode cX3_bedsFor 113 = .ok (.iconst 1, 1) := dk_4 (dk_at dksX3_bedsFor_4 20 rfl rfl)
theorem dX3_bedsFor_114 : decode cX3_bedsFor 114 = .ok (.goto 4, 3) := dk_167 0 4 (dk_at dksX3_bedsFor_4 21 rfl rfl)
theorem dX3_bedsFor_117 : decode cX3_bedsFor 117 = .ok (.iconst 0, 1) := dk_3 (dk_at dksX3_bedsFor_5 0 rfl rfl)
theorem dX3_bedsFor_118 : decode cX3_bedsFor 118 = .ok (.iadd, 1) := dk_96 (dk_at dksX3_bedsFor_5 1 rfl rfl)
theorem dX3_bedsFor_119 : decode cX3_bedsFor 119 = .ok (.iload_n 3, 1) := dk_29 (dk_at dksX3_bedsFor_5 2 rfl rfl)
theorem dX3_bedsFor_120 : decode cX3_bedsFor 120 = .ok (.ifCond .eq 7, 3) := dk_153 0 7 (dk_at dksX3_bedsFor_5 3 rfl rfl)
theorem dX3_bedsFor_123 : decode cX3_bedsFor 123 = .ok (.iconst 1, 1) := dk_4 (dk_at dksX3_bedsFor_5 6 rfl rfl)
theorem dX3_bedsFor_124 : decode cX3_bedsFor 124 = .ok (.goto 4, 3) := dk_167 0 4 (dk_at dksX3_bedsFor_5 7 rfl rfl)
theorem dX3_bedsFor_127 : decode cX3_bedsFor 127 = .ok (.iconst 0, 1) := dk_3 (dk_at dksX3_bedsFor_5 10 rfl rfl)
theorem dX3_bedsFor_128 : decode cX3_bedsFor 128 = .ok (.iadd, 1) := dk_96 (dk_at dksX3_bedsFor_5 11 rfl rfl)
theorem dX3_bedsFor_129 : decode cX3_bedsFor 129 = .ok (.ireturn, 1) := dk_172 (dk_at dksX3_bedsFor_5 12 rfl rfl)
/-! PageGarden$Garden.bedsFor(I)I -/
abbrev M_X3_bedsFor (z0 n0 : Nat) (s' : gS) : gM := (RX3, cX3_bedsFor, 6, (some FieldType.int), "bedsFor", [], 11, z0, n0, s'.2.1, s'.2.2)
abbrev W_X3_bedsFor (E : gE) (z0 n0 : Nat) (r : (Int32 ⊕ String)) (s' : gS) (pc : Nat) (L : List (Nat × gV)) (st : List gV) (s : gS) : Prop := gW E (M_X3_bedsFor z0 n0 s') (gQm E (M_X3_bedsFor z0 n0 s') (gOi r) s') pc L st s
noncomputable def f_X3_bedsFor_128 (κ : gK) (F : Nat)  (t0 : Int32) (t1 : Int32) (s : gS) : Option ((Int32 ⊕ String) × gS) :=
  some ((.inl (t0 + t1)), s)
set_option maxHeartbeats 4000000 in
theorem w_X3_bedsFor_128 {E : gE} {F z0 n0 : Nat} {r : (Int32 ⊕ String)} {s' : gS}   : ∀  (t0 : Int32) (t1 : Int32) (s : gS), f_X3_bedsFor_128 (gk E) F  t0 t1 s = some (r, s') → W_X3_bedsFor E z0 n0 r s' 128 [] [vI t1, vI t0] s := by
  intro t0 t1 s hB
  unfold f_X3_bedsFor_128 at hB
  refine gw_iadd dX3_bedsFor_128 ?_
  obtain ⟨rfl, rfl⟩ := Prod.mk.inj (Option.some.inj hB)
  exact gw_iret rfl rfl rfl dX3_bedsFor_129
noncomputable def f_X3_bedsFor_118 (κ : gK) (F : Nat)  (l3 : Int32) (t0 : Int32) (t1 : Int32) (s : gS) : Option ((Int32 ⊕ String) × gS) :=
  if l3 = 0 then
    f_X3_bedsFor_128 κ F  (t0 + t1) (0 : Int32) s
  else
    f_X3_bedsFor_128 κ F  (t0 + t1) (1 : Int32) s
set_option maxHeartbeats 4000000 in
theorem w_X3_bedsFor_118 {E : gE} {F z0 n0 : Nat} {r : (Int32 ⊕ String)} {s' : gS}   : ∀ (l3 : Int32) (t0 : Int32) (t1 : Int32) (s : gS), f_X3_bedsFor_118 (gk E) F  l3 t0 t1 s = some (r, s') → W_X3_bedsFor E z0 n0 r s' 118 [(3, vI l3)] [vI t1, vI t0] s := by
  intro l3 t0 t1 s hB
  unfold f_X3_bedsFor_118 at hB
  refine gw_iadd dX3_bedsFor_118 ?_
  refine gw_iload_n 0 rfl dX3_bedsFor_119 ?_
  refine gw_if_eq (tgt := 127) dX3_bedsFor_120 (by decide) (fun hcnd => ?_) (fun hcnd => ?_)
  · rw [if_pos hcnd] at hB
    refine gw_iconst (v := (0 : Int32)) (by decide) dX3_bedsFor_127 ?_
    exact gw_sub [] rfl (w_X3_bedsFor_128  _ _ _ hB)
  · rw [if_neg hcnd] at hB
    refine gw_iconst (v := (1 : Int32)) (by decide) dX3_bedsFor_123 ?_
    refine gw_goto (tgt := 128) dX3_bedsFor_124 (by decide) ?_
    exact gw_sub [] rfl (w_X3_bedsFor_128  _ _ _ hB)
noncomputable def f_X3_bedsFor_104 (κ : gK) (F : Nat)  (l3 : Int32) (l4 : Int32) (t0 : Int32) (s : gS) : Option ((Int32 ⊕ String) × gS) :=
  if t0 = 0 then
    f_X3_bedsFor_118 κ F  l3 l4 (0 : Int32) s
  else
    f_X3_bedsFor_118 κ F  l3 l4 (1 : Int32) s
set_option maxHeartbeats 4000000 in
theorem w_X3_bedsFor_104 {E : gE} {F z0 n0 : Nat} {r : (Int32 ⊕ String)} {s' : gS}   : ∀ (l3 : Int32) (l4 : Int32) (t0 : Int32) (s : gS), f_X3_bedsFor_104 (gk E) F  l3 l4 t0 s = some (r, s') → W_X3_bedsFor E z0 n0 r s' 104 [(3, vI l3), (4, vI l4)] [vI t0] s := by
  intro l3 l4 t0 s hB
  unfold f_X3_bedsFor_104 at hB
  refine gw_istore (L' := [(5, vI t0), (3, vI l3), (4, vI l4)]) (Nat.le_of_ble_eq_true rfl) rfl dX3_bedsFor_104 ?_
  refine gw_iload 2 rfl dX3_bedsFor_106 ?_
  refine gw_iload 0 rfl dX3_bedsFor_108 ?_
  refine gw_if_eq (tgt := 117) dX3_bedsFor_110 (by decide) (fun hcnd => ?_) (fun hcnd => ?_)
  · rw [if_pos hcnd] at hB
    refine gw_iconst (v := (0 : Int32)) (by decide) dX3_bedsFor_117 ?_
    exact gw_sub [1] rfl (w_X3_bedsFor_118  _ _ _ _ hB)
  · rw [if_neg hcnd] at hB
    refine gw_iconst (v := (1 : Int32)) (by decide) dX3_bedsFor_113 ?_
    refine gw_goto (tgt := 118) dX3_bedsFor_114 (by decide) ?_
    exact gw_sub [1] rfl (w_X3_bedsFor_118  _ _ _ _ hB)
noncomputable def f_X3_bedsFor_63 (κ : gK) (F : Nat)  (l0 : Option Nat) (l1 : Int32) (l2 : Option Nat) (l3 : Int32) (t0 : Int32) (s : gS) : Option ((Int32 ⊕ String) × gS) :=
  gB1 (gfR s l2 3 0) fun v1 =>
  gB1 (gal s v1) fun v2 =>
  if v2 = 0 then
    some ((.inl (t0 + (1 : Int32))), s)
  else
    gB1 (gfR s l0 7 6) fun v3 =>
    gB1 (gfR s l2 3 0) fun v4 =>
    gB1 (gck s l0 7) fun _ =>
    gB2 (f_X3_placeOf κ F l0 l2 l1 s) fun v6 s5 =>
    gB1 (gaI s5 v4 0 v6) fun v8 =>
    gB1 (gck s5 v3 6) fun _ =>
    gB2 (f_X7_isNew κ F v3 v8 s5) fun v10 s9 =>
    if v10 = 0 then
      f_X3_bedsFor_104 κ F  l3 t0 (1 : Int32) s9
    else
      f_X3_bedsFor_104 κ F  l3 t0 (0 : Int32) s9
set_option maxHeartbeats 4000000 in
theorem w_X3_bedsFor_63 {E : gE} {F z0 n0 : Nat} {r : (Int32 ⊕ String)} {s' : gS}   : ∀ (l0 : Option Nat) (l1 : Int32) (l2 : Option Nat) (l3 : Int32) (t0 : Int32) (s : gS), f_X3_bedsFor_63 (gk E) F  l0 l1 l2 l3 t0 s = some (r, s') → W_X3_bedsFor E z0 n0 r s' 63 [(0, vR l0), (1, vI l1), (2, vR l2), (3, vI l3)] [vI t0] s := by
  intro l0 l1 l2 l3 t0 s hB
  unfold f_X3_bedsFor_63 at hB
  refine gw_istore (L' := [(4, vI t0), (0, vR l0), (1, vI l1), (2, vR l2), (3, vI l3)]) (Nat.le_of_ble_eq_true rfl) rfl dX3_bedsFor_63 ?_
  refine gw_aload_n 3 rfl dX3_bedsFor_65 ?_
  obtain ⟨v1, hv1, hB⟩ := gB1_some hB
  refine gw_getfN (C := RX5) (T := TX5) (N := 1) (k := 0) gcl3 (by decide) in_X5 q321 (gfR_spec hv1) dX3_bedsFor_66 ?_
  obtain ⟨v2, hv2, hB⟩ := gB1_some hB
  refine gw_alen hv2 dX3_bedsFor_69 ?_
  refine gw_if_ne (tgt := 78) dX3_bedsFor_70 (by decide) (fun hcnd => ?_) (fun hcnd => ?_)
  · rw [if_neg hcnd] at hB
    refine gw_aload_n 1 rfl dX3_bedsFor_78 ?_
    obtain ⟨v3, hv3, hB⟩ := gB1_some hB
    refine gw_getf (C := RX3) (T := TX3) (N := 9) (k := 6) gcl7 (by decide) in_X3 q289 (gfR_spec hv3) dX3_bedsFor_79 ?_
    refine gw_aload_n 3 rfl dX3_bedsFor_82 ?_
    obtain ⟨v4, hv4, hB⟩ := gB1_some hB
    refine gw_getfN (C := RX5) (T := TX5) (N := 1) (k := 0) gcl3 (by decide) in_X5 q321 (gfR_spec hv4) dX3_bedsFor_83 ?_
    refine gw_aload_n 1 rfl dX3_bedsFor_86 ?_
    refine gw_aload_n 3 rfl dX3_bedsFor_87 ?_
    refine gw_iload_n 2 rfl dX3_bedsFor_88 ?_
    obtain ⟨u0, hu7, hB⟩ := gB1_some hB
    obtain ⟨v6, s5, hv6, hB⟩ := gB2_some hB
    refine gw_callV (y := yX3_placeOf) (lw_V q2053 q2055 qs25 q110 q2056) hdV_X3_placeOf gcl7 hu7 (As := [vR l2, vI l1]) (rest := [vR v4, vR v3]) (m_X3_placeOf _ _ _ _ _ _ hv6) (Nat.le_of_ble_eq_true rfl) (Nat.le_of_ble_eq_true rfl) rfl (Nat.le_of_ble_eq_true rfl) dX3_bedsFor_89 (gCont_i ?_)
    obtain ⟨v8, hv8, hB⟩ := gB1_some hB
    refine gw_iaload hv8 dX3_bedsFor_92 ?_
    obtain ⟨u0, hu11, hB⟩ := gB1_some hB
    obtain ⟨v10, s9, hv10, hB⟩ := gB2_some hB
    refine gw_callV (y := yX7_isNew) (lw_V q2075 q2076 q2077 q144 q2078) hdV_X7_isNew gcl6 hu11 (As := [vI v8]) (rest := []) (m_X7_isNew _ _ _ _ _ hv10) (Nat.le_of_ble_eq_true rfl) (Nat.le_of_ble_eq_true rfl) rfl (Nat.le_of_ble_eq_true rfl) dX3_bedsFor_93 (gCont_i ?_)
    refine gw_if_ne (tgt := 103) dX3_bedsFor_96 (by decide) (fun hcnd => ?_) (fun hcnd => ?_)
    · rw [if_neg hcnd] at hB
      refine gw_iconst (v := (0 : Int32)) (by decide) dX3_bedsFor_103 ?_
      exact gw_sub [4, 0] rfl (w_X3_bedsFor_104  _ _ _ _ hB)
    · rw [if_pos hcnd] at hB
      refine gw_iconst (v := (1 : Int32)) (by decide) dX3_bedsFor_99 ?_
      refine gw_goto (tgt := 104) dX3_bedsFor_100 (by decide) ?_
      exact gw_sub [4, 0] rfl (w_X3_bedsFor_104  _ _ _ _ hB)
  · rw [if_pos hcnd] at hB
    refine gw_iload 0 rfl dX3_bedsFor_73 ?_
    refine gw_iconst (v := (1 : Int32)) (by decide) dX3_bedsFor_75 ?_
    refine gw_iadd dX3_bedsFor_76 ?_
    obtain ⟨rfl, rfl⟩ := Prod.mk.inj (Option.some.inj hB)
    exact gw_iret rfl rfl rfl dX3_bedsFor_77
noncomputable def f_X3_bedsFor_41 (κ : gK) (F : Nat)  (l0 : Option Nat) (l1 : Int32) (l2 : Option Nat) (l3 : Int32) (s : gS) : Option ((Int32 ⊕ String) × gS) :=
  gB1 (gfR s l0 7 6) fun v1 =>
  gB1 (gfR s l0 7 6) fun v2 =>
  gB1 (gfI s v2 6 2) fun v3 =>
  gB1 (gck s v1 6) fun _ =>
  gB2 (f_X7_isNew κ F v1 v3 s) fun v5 s4 =>
  if v5 = 0 then
    f_X3_bedsFor_63 κ F  l0 l1 l2 l3 (1 : Int32) s4
  else
    f_X3_bedsFor_63 κ F  l0 l1 l2 l3 (0 : Int32) s4
set_option maxHeartbeats 4000000 in
theorem w_X3_bedsFor_41 {E : gE} {F z0 n0 : Nat} {r : (Int32 ⊕ String)} {s' : gS}   : ∀ (l0 : Option Nat) (l1 : Int32) (l2 : Option Nat) (l3 : Int32)  (s : gS), f_X3_bedsFor_41 (gk E) F  l0 l1 l2 l3 s = some (r, s') → W_X3_bedsFor E z0 n0 r s' 41 [(0, vR l0), (1, vI l1), (2, vR l2), (3, vI l3)] [] s := by
  intro l0 l1 l2 l3 s hB
  unfold f_X3_bedsFor_41 at hB
  refine gw_aload_n 0 rfl dX3_bedsFor_41 ?_
  obtain ⟨v1, hv1, hB⟩ := gB1_some hB
  refine gw_getf (C := RX3) (T := TX3) (N := 9) (k := 6) gcl7 (by decide) in_X3 q289 (gfR_spec hv1) dX3_bedsFor_42 ?_
  refine gw_aload_n 0 rfl dX3_bedsFor_45 ?_
  obtain ⟨v2, hv2, hB⟩ := gB1_some hB
  refine gw_getf (C := RX3) (T := TX3) (N := 9) (k := 6) gcl7 (by decide) in_X3 q289 (gfR_spec hv2) dX3_bedsFor_46 ?_
  obtain ⟨v3, hv3, hB⟩ := gB1_some hB
  refine gw_getfN (C := RX7) (T := TX7) (N := 3) (k := 2) gcl6 (by decide) in_X7 q1791 (gfI_spec hv3) dX3_bedsFor_49 ?_
  obtain ⟨u0, hu6, hB⟩ := gB1_some hB
  obtain ⟨v5, s4, hv5, hB⟩ := gB2_some hB
  refine gw_callV (y := yX7_isNew) (lw_V q2075 q2076 q2077 q144 q2078) hdV_X7_isNew gcl6 hu6 (As := [vI v3]) (rest := []) (m_X7_isNew _ _ _ _ _ hv5) (Nat.le_of_ble_eq_true rfl) (Nat.le_of_ble_eq_true rfl) rfl (Nat.le_of_ble_eq_true rfl) dX3_bedsFor_52 (gCont_i ?_)
  refine gw_if_eq (tgt := 62) dX3_bedsFor_55 (by decide) (fun hcnd => ?_) (fun hcnd => ?_)
  · rw [if_pos hcnd] at hB
    refine gw_iconst (v := (1 : Int32)) (by decide) dX3_bedsFor_62 ?_
    exact gw_sub [0, 1, 2, 3] rfl (w_X3_bedsFor_63  _ _ _ _ _ _ hB)
  · rw [if_neg hcnd] at hB
    refine gw_iconst (v := (0 : Int32)) (by decide) dX3_bedsFor_58 ?_
    refine gw_goto (tgt := 63) dX3_bedsFor_59 (by decide) ?_
    exact gw_sub [0, 1, 2, 3] rfl (w_X3_bedsFor_63  _ _ _ _ _ _ hB)
noncomputable def f_X3_bedsFor_0 (κ : gK) (F : Nat)  (l0 : Option Nat) (l1 : Int32) (s : gS) : Option ((Int32 ⊕ String) × gS) :=
  gB1 (gck s l0 7) fun _ =>
  gB3 (f_X3_requireDraft κ F l0  s) fun v2 s1 =>
  gB1 (gfR s1 l0 7 6) fun v4 =>
  gB1 (gfI s1 v4 6 2) fun v5 =>
  gB1 (gck s1 l0 7) fun _ =>
  gB2 (f_X3_directory κ F l0 v5 s1) fun v7 s6 =>
  gB1 (gck s6 l0 7) fun _ =>
  gB2 (f_X3_splits κ F l0 v7 l1 s6) fun v10 s9 =>
  if v10 = 0 then
    f_X3_bedsFor_41 κ F  l0 l1 v7 v10 s9
  else
    gB1 (gfR s9 v7 3 0) fun v12 =>
    gB1 (gal s9 v12) fun v13 =>
    if v13 = (6 : Int32) then
      some ((.inl (-1000 : Int32)), s9)
    else
      f_X3_bedsFor_41 κ F  l0 l1 v7 v10 s9
set_option maxHeartbeats 4000000 in
theorem w_X3_bedsFor_0 {E : gE} {F z0 n0 : Nat} {r : (Int32 ⊕ String)} {s' : gS}   : ∀ (l0 : Option Nat) (l1 : Int32)  (s : gS), f_X3_bedsFor_0 (gk E) F  l0 l1 s = some (r, s') → W_X3_bedsFor E z0 n0 r s' 0 [(0, vR l0), (1, vI l1)] [] s := by
  intro l0 l1 s hB
  unfold f_X3_bedsFor_0 at hB
  refine gw_aload_n 0 rfl dX3_bedsFor_0 ?_
  obtain ⟨u0, hu3, hB⟩ := gB1_some hB
  rcases gB3_some hB with ⟨v2, s1, hv2, hB⟩ | ⟨Cv2, hv2, hzv2⟩
  rotate_left
  · subst hzv2
    exact gw_callV (y := yX3_requireDraft) (lw_V q2010 q2012 qs22 q110 q2013) hdV_X3_requireDraft gcl7 hu3 (As := []) (rest := []) (m_X3_requireDraft _ _ _ _ hv2) (Nat.le_of_ble_eq_true rfl) (Nat.le_of_ble_eq_true rfl) rfl (Nat.le_of_ble_eq_true rfl) dX3_bedsFor_1 (gCont_x (gx_out rfl rfl rfl))
  refine gw_callV (y := yX3_requireDraft) (lw_V q2010 q2012 qs22 q110 q2013) hdV_X3_requireDraft gcl7 hu3 (As := []) (rest := []) (m_X3_requireDraft _ _ _ _ hv2) (Nat.le_of_ble_eq_true rfl) (Nat.le_of_ble_eq_true rfl) rfl (Nat.le_of_ble_eq_true rfl) dX3_bedsFor_1 (gCont_v ?_)
  refine gw_aload_n 0 rfl dX3_bedsFor_4 ?_
  refine gw_aload_n 0 rfl dX3_bedsFor_5 ?_
  obtain ⟨v4, hv4, hB⟩ := gB1_some hB
  refine gw_getf (C := RX3) (T := TX3) (N := 9) (k := 6) gcl7 (by decide) in_X3 q289 (gfR_spec hv4) dX3_bedsFor_6 ?_
  obtain ⟨v5, hv5, hB⟩ := gB1_some hB
  refine gw_getfN (C := RX7) (T := TX7) (N := 3) (k := 2) gcl6 (by decide) in_X7 q1791 (gfI_spec hv5) dX3_bedsFor_9 ?_
  obtain ⟨u0, hu8, hB⟩ := gB1_some hB
  obtain ⟨v7, s6, hv7, hB⟩ := gB2_some hB
  refine gw_callV (y := yX3_directory) (lw_V q2041 q2043 qs23 q110 q2044) hdV_X3_directory gcl7 hu8 (As := [vI v5]) (rest := []) (m_X3_directory _ _ _ _ _ hv7) (Nat.le_of_ble_eq_true rfl) (Nat.le_of_ble_eq_true rfl) rfl (Nat.le_of_ble_eq_true rfl) dX3_bedsFor_12 (gCont_i ?_)
  refine gw_astore_n (L' := [(2, vR v7), (0, vR l0), (1, vI l1)]) (Nat.le_of_ble_eq_true rfl) rfl dX3_bedsFor_15 ?_
  refine gw_aload_n 1 rfl dX3_bedsFor_16 ?_
  refine gw_aload_n 0 rfl dX3_bedsFor_17 ?_
  refine gw_iload_n 2 rfl dX3_bedsFor_18 ?_
  obtain ⟨u0, hu11, hB⟩ := gB1_some hB
  obtain ⟨v10, s9, hv10, hB⟩ := gB2_some hB
  refine gw_callV (y := yX3_splits) (lw_V q2049 q2051 qs24 q110 q2052) hdV_X3_splits gcl7 hu11 (As := [vR v7, vI l1]) (rest := []) (m_X3_splits _ _ _ _ _ _ hv10) (Nat.le_of_ble_eq_true rfl) (Nat.le_of_ble_eq_true rfl) rfl (Nat.le_of_ble_eq_true rfl) dX3_bedsFor_19 (gCont_i ?_)
  refine gw_istore_n (L' := [(3, vI v10), (2, vR v7), (0, vR l0), (1, vI l1)]) (Nat.le_of_ble_eq_true rfl) rfl dX3_bedsFor_22 ?_
  refine gw_iload_n 0 rfl dX3_bedsFor_23 ?_
  refine gw_if_eq (tgt := 41) dX3_bedsFor_24 (by decide) (fun hcnd => ?_) (fun hcnd => ?_)
  · rw [if_pos hcnd] at hB
    exact gw_sub [2, 3, 1, 0] rfl (w_X3_bedsFor_41  _ _ _ _ _ hB)
  · rw [if_neg hcnd] at hB
    refine gw_aload_n 1 rfl dX3_bedsFor_27 ?_
    obtain ⟨v12, hv12, hB⟩ := gB1_some hB
    refine gw_getfN (C := RX5) (T := TX5) (N := 1) (k := 0) gcl3 (by decide) in_X5 q321 (gfR_spec hv12) dX3_bedsFor_28 ?_
    obtain ⟨v13, hv13, hB⟩ := gB1_some hB
    refine gw_alen hv13 dX3_bedsFor_31 ?_
    refine gw_bipush (v := (6 : Int32)) (by decide) dX3_bedsFor_32 ?_
    refine gw_icmp_ne (tgt := 41) dX3_bedsFor_34 (by decide) (fun hcnd => ?_) (fun hcnd => ?_)
    · rw [if_neg hcnd] at hB
      exact gw_sub [2, 3, 1, 0] rfl (w_X3_bedsFor_41  _ _ _ _ _ hB)
    · rw [if_pos hcnd] at hB
      refine gw_sipush (v := (-1000 : Int32)) (by decide) dX3_bedsFor_37 ?_
      obtain ⟨rfl, rfl⟩ := Prod.mk.inj (Option.some.inj hB)
      exact gw_iret rfl rfl rfl dX3_bedsFor_40
noncomputable def f_X3_bedsFor (κ : gK) (F : Nat) (a0 : Option Nat) (a1 : Int32) (s : gS) : Option ((Int32 ⊕ String) × gS) := f_X3_bedsFor_0 κ F a0 a1 s
theorem m_X3_bedsFor {E : gE} {F : Nat} (a0 : Option Nat) (a1 : Int32) (s : gS) (r : (Int32 ⊕ String)) (s' : gS) (h : f_X3_bedsFor (gk E) F a0 a1 s = some (r, s')) : gCT E 11 yX3_bedsFor (ws_ yX3_bedsFor cX3_bedsFor 6 (some FieldType.int)) [vR a0, vI a1] s (gOi r) s' := by
  refine gCT_of2 (fun h => absurd h (by decide)) (plainFor_of_name (by decide)) (Nat.le_of_ble_eq_true rfl) ?_
  exact gw_sub [0, 1] rfl (w_X3_bedsFor_0 _ _ _ h)
def dkwX3_begin_1 : List UInt8 := [182, 0, 155, 180, 0, 223, 183, 0, 225, 181, 0, 80, 42, 182, 0, 155, 180, 0, 149, 172]
abbrev dktX3_begin_1 : List UInt8 := dkwX3_begin_1 ++ []
def dkwX3_begin_0 : List UInt8 := [42, 180, 0, 80, 199, 0, 7, 4, 167, 0, 4, 3, 18, 221, 184, 0, 183, 42, 187, 0, 85, 89, 42]
abbrev dktX3_begin_0 : List UInt8 := dkwX3_begin_0 ++ dktX3_begin_1
theorem dksX3_begin_0 : cX3_begin.data.toList.drop 0 = dktX3_begin_0 := by decide +kernel
theorem dksX3_begin_1 : cX3_begin.data.toList.drop 23 = dktX3_begin_1 := dk_seg dksX3_begin_0 23 rfl rfl
theorem dX3_begin_0 : decode cX3_begin 0 = .ok (.aload_n 0, 1) := dk_42 (dk_at dksX3_begin_0 0 rfl rfl)
theorem dX3_begin_1 : decode cX3_begin 1 = .ok (.getfield 80, 3) := dk_180 0 80 (dk_at dksX3_begin_0 1 rfl rfl)
theorem dX3_begin_4 : decode cX3_begin 4 = .ok (.ifnonnull 7, 3) := dk_199 0 7 (dk_at dksX3_begin_0 4 rfl rfl)
theorem dX3_begin_7 : decode cX3_begin 7 = .ok (.iconst 1, 1) := dk_4 (dk_at dksX3_begin_0 7 rfl rfl)
theorem dX3_begin_8 : decode cX3_begin 8 = .ok (.goto 4, 3) := dk_167 0 4 (dk_at dksX3_begin_0 8 rfl rfl)
theorem dX3_begin_11 : decode cX3_begin 11 = .ok (.iconst 0, 1) := dk_3 (dk_at dksX3_begin_0 11 rfl rfl)
theorem dX3_begin_12 : decode cX3_begin 12 = .ok (.ldc 221, 2) := dk_18 221 (dk_at dksX3_begin_0 12 rfl rfl)
theorem dX3_begin_14 : decode cX3_begin 14 = .ok (.invokestatic 183, 3) := dk_184 0 183 (dk_at dksX3_begin_0 14 rfl rfl)
theorem dX3_begin_17 : decode cX3_begin 17 = .ok (.aload_n 0, 1) := dk_42 (dk_at dksX3_begin_0 17 rfl rfl)
theorem dX3_begin_18 : decode cX3_begin 18 = .ok (.new 85, 3) := dk_187 0 85 (dk_at dksX3_begin_0 18 rfl rfl)
theorem dX3_begin_21 : decode cX3_begin 21 = .ok (.dup, 1) := dk_89 (dk_at dksX3_begin_0 21 rfl rfl)
theorem dX3_begin_22 : decode cX3_begin 22 = .ok (.aload_n 0, 1) := dk_42 (dk_at dksX3_begin_0 22 rfl rfl)
theorem dX3_begin_23 : decode cX3_begin 23 = .ok (.invokevirtual 155, 3) := dk_182 0 155 (dk_at dksX3_begin_1 0 rfl rfl)
theorem dX3_begin_26 : decode cX3_begin 26 = .ok (.getfield 223, 3) := dk_180 0 223 (dk_at dksX3_begin_1 3 rfl rfl)
theorem dX3_begin_29 : decode cX3_begin 29 = .ok (.invokespecial 225, 3) := dk_183 0 225 (dk_at dksX3_begin_1 6 rfl rfl)
theorem dX3_begin_32 : decode cX3_begin 32 = .ok (.putfield 80, 3) := dk_181 0 80 (dk_at dksX3_begin_1 9 rfl rfl)
theorem dX3_begin_35 : decode cX3_begin 35 = .ok (.aload_n 0, 1) := dk_42 (dk_at dksX3_begin_1 12 rfl rfl)
theorem dX3_begin_36 : decode cX3_begin 36 = .ok (.invokevirtual 155, 3) := dk_182 0 155 (dk_at dksX3_begin_1 13 rfl rfl)
theorem dX3_begin_39 : decode cX3_begin 39 = .ok (.getfield 149, 3) := dk_180 0 149 (dk_at dksX3_begin_1 16 rfl rfl)
theorem dX3_begin_42 : decode cX3_begin 42 = .ok (.ireturn, 1) := dk_172 (dk_at dksX3_begin_1 19 rfl rfl)
/-! PageGarden$Garden.begin()I -/
abbrev M_X3_begin (z0 n0 : Nat) (s' : gS) : gM := (RX3, cX3_begin, 1, (some FieldType.int), "begin", [], 10, z0, n0, s'.2.1, s'.2.2)
abbrev W_X3_begin (E : gE) (z0 n0 : Nat) (r : (Int32 ⊕ String)) (s' : gS) (pc : Nat) (L : List (Nat × gV)) (st : List gV) (s : gS) : Prop := gW E (M_X3_begin z0 n0 s') (gQm E (M_X3_begin z0 n0 s') (gOi r) s') pc L st s
noncomputable def f_X3_begin_12 (κ : gK) (F : Nat)  (l0 : Option Nat) (t0 : Int32) (s : gS) : Option ((Int32 ⊕ String) × gS) :=
  gB3 (f_X1_requireState κ F t0 (κ.2 28) s) fun v2 s1 =>
  gB2 (gnw s1 6 g0_X7 3) fun v3 s4 =>
  gB1 (gck s4 l0 7) fun _ =>
  gB2 (f_X3_now κ F l0  s4) fun v6 s5 =>
  gB1 (gfI s5 v6 4 1) fun v8 =>
  gB1 (gsm v3) fun _ =>
  gB2 (f_X7_init κ F v3 v8 s5) fun v10 s9 =>
  gB1 (gpf κ s9 l0 7 6 (va_rf v3)) fun s12 =>
  gB1 (gck s12 l0 7) fun _ =>
  gB2 (f_X3_now κ F l0  s12) fun v14 s13 =>
  gB1 (gfI s13 v14 4 0) fun v16 =>
  some ((.inl v16), s13)
set_option maxHeartbeats 4000000 in
theorem w_X3_begin_12 {E : gE} {F z0 n0 : Nat} {r : (Int32 ⊕ String)} {s' : gS}   : ∀ (l0 : Option Nat) (t0 : Int32) (s : gS), f_X3_begin_12 (gk E) F  l0 t0 s = some (r, s') → W_X3_begin E z0 n0 r s' 12 [(0, vR l0)] [vI t0] s := by
  intro l0 t0 s hB
  unfold f_X3_begin_12 at hB
  refine gw_ldcS (own := "PageGarden$Garden") (tx := "there is a draft") (i := 28) rfl (by decide) dX3_begin_12 ?_
  rcases gB3_some hB with ⟨v2, s1, hv2, hB⟩ | ⟨Cv2, hv2, hzv2⟩
  rotate_left
  · subst hzv2
    exact gw_callSN (y := yX1_requireState) (lw_meth q2017) q108 q2015 q2016 hdS_X1_requireState (As := [vI t0, vR ((gk E).2 28)]) (rest := []) (m_X1_requireState _ _ _ _ _ hv2) (Nat.le_of_ble_eq_true rfl) (Nat.le_of_ble_eq_true rfl) rfl (Nat.le_of_ble_eq_true rfl) dX3_begin_14 (gCont_x (gx_out rfl rfl rfl))
  refine gw_callSN (y := yX1_requireState) (lw_meth q2017) q108 q2015 q2016 hdS_X1_requireState (As := [vI t0, vR ((gk E).2 28)]) (rest := []) (m_X1_requireState _ _ _ _ _ hv2) (Nat.le_of_ble_eq_true rfl) (Nat.le_of_ble_eq_true rfl) rfl (Nat.le_of_ble_eq_true rfl) dX3_begin_14 (gCont_v ?_)
  refine gw_aload_n 0 rfl dX3_begin_17 ?_
  obtain ⟨v3, s4, hv3, hB⟩ := gB2_some hB
  refine gw_new (C := RX7) (T := TX7) (N := 3) tyX7 tyX7_ok gcl6 in_X7 q2306 q1464 q144 g0_X7_ok hv3 dX3_begin_18 ?_
  refine gw_dup rfl dX3_begin_21 ?_
  refine gw_aload_n 0 rfl dX3_begin_22 ?_
  obtain ⟨u0, hu7, hB⟩ := gB1_some hB
  obtain ⟨v6, s5, hv6, hB⟩ := gB2_some hB
  refine gw_callV (y := yX3_now) (lw_V q1302 q1303 q1304 q110 q1305) hdV_X3_now gcl7 hu7 (As := []) (rest := [vR v3, vR v3, vR l0]) (m_X3_now _ _ _ _ hv6) (Nat.le_of_ble_eq_true rfl) (Nat.le_of_ble_eq_true rfl) rfl (Nat.le_of_ble_eq_true rfl) dX3_begin_23 (gCont_i ?_)
  obtain ⟨v8, hv8, hB⟩ := gB1_some hB
  refine gw_getfN (C := RX4) (T := TX4) (N := 3) (k := 1) gcl4 (by decide) in_X4 q201 (gfI_spec hv8) dX3_begin_26 ?_
  obtain ⟨u0, hu11, hB⟩ := gB1_some hB
  obtain ⟨v10, s9, hv10, hB⟩ := gB2_some hB
  refine gw_callI (y := yX7_init) (lw_meth q1467) q144 q2307 q1466 rfl hdS_X7_init (gsm_spec hu11) (As := [vI v8]) (rest := [vR v3, vR l0]) (m_X7_init _ _ _ _ _ hv10) (Nat.le_of_ble_eq_true rfl) (Nat.le_of_ble_eq_true rfl) rfl (Nat.le_of_ble_eq_true rfl) dX3_begin_29 (gCont_v ?_)
  obtain ⟨s12, hs12, hB⟩ := gB1_some hB
  refine gw_putf (C := RX3) (T := TX3) (N := 9) (k := 6) tyX3 tyX3_ok nmX3 gcl7 (by decide) in_X3 q289 rfl (tyX3_ok 6 (by decide)) (gNF_o _ _) hs12 dX3_begin_32 ?_
  refine gw_aload_n 0 rfl dX3_begin_35 ?_
  obtain ⟨u0, hu15, hB⟩ := gB1_some hB
  obtain ⟨v14, s13, hv14, hB⟩ := gB2_some hB
  refine gw_callV (y := yX3_now) (lw_V q1302 q1303 q1304 q110 q1305) hdV_X3_now gcl7 hu15 (As := []) (rest := []) (m_X3_now _ _ _ _ hv14) (Nat.le_of_ble_eq_true rfl) (Nat.le_of_ble_eq_true rfl) rfl (Nat.le_of_ble_eq_true rfl) dX3_begin_36 (gCont_i ?_)
  obtain ⟨v16, hv16, hB⟩ := gB1_some hB
  refine gw_getfN (C := RX4) (T := TX4) (N := 3) (k := 0) gcl4 (by decide) in_X4 q199 (gfI_spec hv16) dX3_begin_39 ?_
  obtain ⟨rfl, rfl⟩ := Prod.mk.inj (Option.some.inj hB)
  exact gw_iret rfl rfl rfl dX3_begin_42
noncomputable def f_X3_begin_0 (κ : gK) (F : Nat)  (l0 : Option Nat) (s : gS) : Option ((Int32 ⊕ String) × gS) :=
  gB1 (gfR s l0 7 6) fun v1 =>
  if v1 = none then
    f_X3_begin_12 κ F  l0 (1 : Int32) s
  else
    f_X3_begin_12 κ F  l0 (0 : Int32) s
set_option maxHeartbeats 4000000 in
theorem w_X3_begin_0 {E : gE} {F z0 n0 : Nat} {r : (Int32 ⊕ String)} {s' : gS}   : ∀ (l0 : Option Nat)  (s : gS), f_X3_begin_0 (gk E) F  l0 s = some (r, s') → W_X3_begin E z0 n0 r s' 0 [(0, vR l0)] [] s := by
  intro l0 s hB
  unfold f_X3_begin_0 at hB
  refine gw_aload_n 0 rfl dX3_begin_0 ?_
  obtain ⟨v1, hv1, hB⟩ := gB1_some hB
  refine gw_getf (C := RX3) (T := TX3) (N := 9) (k := 6) gcl7 (by decide) in_X3 q289 (gfR_spec hv1) dX3_begin_1 ?_
  refine gw_ifnonnull (tgt := 11) dX3_begin_4 (by decide) (fun hcnd => ?_) (fun hcnd => ?_)
  · rw [if_neg hcnd] at hB
    refine gw_iconst (v := (0 : Int32)) (by decide) dX3_begin_11 ?_
    exact gw_sub [0] rfl (w_X3_begin_12  _ _ _ hB)
  · rw [if_pos hcnd] at hB
    refine gw_iconst (v := (1 : Int32)) (by decide) dX3_begin_7 ?_
    refine gw_goto (tgt := 12) dX3_begin_8 (by decide) ?_
    exact gw_sub [0] rfl (w_X3_begin_12  _ _ _ hB)
noncomputable def f_X3_begin (κ : gK) (F : Nat) (a0 : Option Nat) (s : gS) : Option ((Int32 ⊕ String) × gS) := f_X3_begin_0 κ F a0 s
theorem m_X3_begin {E : gE} {F : Nat} (a0 : Option Nat) (s : gS) (r : (Int32 ⊕ String)) (s' : gS) (h : f_X3_begin (gk E) F a0 s = some (r, s')) : gCT E 10 yX3_begin (ws_ yX3_begin cX3_begin 1 (some FieldType.int)) [vR a0] s (gOi r) s' := by
  refine gCT_of2 (fun h => absurd h (by decide)) (plainFor_of_name (by decide)) (Nat.le_of_ble_eq_true rfl) ?_
  exact gw_sub [0] rfl (w_X3_begin_0 _ _ h)
def dkwX3_diggable_1 : List UInt8 := [153, 0, 7, 4, 167, 0, 4, 3, 96, 61, 132, 3, 1, 167, 255, 230, 28, 172]
abbrev dktX3_diggable_1 : List UInt8 := dkwX3_diggable_1 ++ []
def dkwX3_diggable_0 : List UInt8 := [42, 182, 0, 171, 60, 3, 61, 3, 62, 29, 16, 32, 162, 0, 26, 28, 42, 29, 27, 182, 0, 174]
abbrev dktX3_diggable_0 : List UInt8 := dkwX3_diggable_0 ++ dktX3_diggable_1
theorem dksX3_diggable_0 : cX3_diggable.data.toList.drop 0 = dktX3_diggable_0 := by decide +kernel
theorem dksX3_diggable_1 : cX3_diggable.data.toList.drop 22 = dktX3_diggable_1 := dk_seg dksX3_diggable_0 22 rfl rfl
theorem dX3_diggable_0 : decode cX3_diggable 0 = .ok (.aload_n 0, 1) := dk_42 (dk_at dksX3_diggable_0 0 rfl rfl)
theorem dX3_diggable_1 : decode cX3_diggable 1 = .ok (.invokevirtual 171, 3) := dk_182 0 171 (dk_at dksX3_diggable_0 1 rfl rfl)
theorem dX3_diggable_4 : decode cX3_diggable 4 = .ok (.istore_n 1, 1) := dk_60 (dk_at dksX3_diggable_0 4 rfl rfl)
theorem dX3_diggable_5 : decode cX3_diggable 5 = .ok (.iconst 0, 1) := dk_3 (dk_at dksX3_diggable_0 5 rfl rfl)
theorem dX3_diggable_6 : decode cX3_diggable 6 = .ok (.istore_n 2, 1) := dk_61 (dk_at dksX3_diggable_0 6 rfl rfl)
theorem dX3_diggable_7 : decode cX3_diggable 7 = .ok (.iconst 0, 1) := dk_3 (dk_at dksX3_diggable_0 7 rfl rfl)
theorem dX3_diggable_8 : decode cX3_diggable 8 = .ok (.istore_n 3, 1) := dk_62 (dk_at dksX3_diggable_0 8 rfl rfl)
theorem dX3_diggable_9 : decode cX3_diggable 9 = .ok (.iload_n 3, 1) := dk_29 (dk_at dksX3_diggable_0 9 rfl rfl)
theorem dX3_diggable_10 : decode cX3_diggable 10 = .ok (.bipush 32, 2) := dk_16 32 (dk_at dksX3_diggable_0 10 rfl rfl)
theorem dX3_diggable_12 : decode cX3_diggable 12 = .ok (.if_icmp .ge 26, 3) := dk_162 0 26 (dk_at dksX3_diggable_0 12 rfl rfl)
theorem dX3_diggable_15 : decode cX3_diggable 15 = .ok (.iload_n 2, 1) := dk_28 (dk_at dksX3_diggable_0 15 rfl rfl)
theorem dX3_diggable_16 : decode cX3_diggable 16 = .ok (.aload_n 0, 1) := dk_42 (dk_at dksX3_diggable_0 16 rfl rfl)
theorem dX3_diggable_17 : decode cX3_diggable 17 = .ok (.iload_n 3, 1) := dk_29 (dk_at dksX3_diggable_0 17 rfl rfl)
theorem dX3_diggable_18 : decode cX3_diggable 18 = .ok (.iload_n 1, 1) := dk_27 (dk_at dksX3_diggable_0 18 rfl rfl)
theorem dX3_diggable_19 : decode cX3_diggable 19 = .ok (.invokevirtual 174, 3) := dk_182 0 174 (dk_at dksX3_diggable_0 19 rfl rfl)
theorem dX3_diggable_22 : decode cX3_diggable 22 = .ok (.ifCond .eq 7, 3) := dk_153 0 7 (dk_at dksX3_diggable_1 0 rfl rfl)
theorem dX3_diggable_25 : decode cX3_diggable 25 = .ok (.iconst 1, 1) := dk_4 (dk_at dksX3_diggable_1 3 rfl rfl)
theorem dX3_diggable_26 : decode cX3_diggable 26 = .ok (.goto 4, 3) := dk_167 0 4 (dk_at dksX3_diggable_1 4 rfl rfl)
theorem dX3_diggable_29 : decode cX3_diggable 29 = .ok (.iconst 0, 1) := dk_3 (dk_at dksX3_diggable_1 7 rfl rfl)
theorem dX3_diggable_30 : decode cX3_diggable 30 = .ok (.iadd, 1) := dk_96 (dk_at dksX3_diggable_1 8 rfl rfl)
theorem dX3_diggable_31 : decode cX3_diggable 31 = .ok (.istore_n 2, 1) := dk_61 (dk_at dksX3_diggable_1 9 rfl rfl)
theorem dX3_diggable_32 : decode cX3_diggable 32 = .ok (.iinc 3 1, 3) := dk_132 3 1 (dk_at dksX3_diggable_1 10 rfl rfl)
theorem dX3_diggable_35 : decode cX3_diggable 35 = .ok (.goto (-26), 3) := dk_167 255 230 (dk_at dksX3_diggable_1 13 rfl rfl)
theorem dX3_diggable_38 : decode cX3_diggable 38 = .ok (.iload_n 2, 1) := dk_28 (dk_at dksX3_diggable_1 16 rfl rfl)
theorem dX3_diggable_39 : decode cX3_diggable 39 = .ok (.ireturn, 1) := dk_172 (dk_at dksX3_diggable_1 17 rfl rfl)
/-! PageGarden$Garden.diggable()I -/
abbrev M_X3_diggable (z0 n0 : Nat) (s' : gS) : gM := (RX3, cX3_diggable, 4, (some FieldType.int), "diggable", [], 5, z0, n0, s'.2.1, s'.2.2)
abbrev W_X3_diggable (E : gE) (z0 n0 : Nat) (r : Int32) (s' : gS) (pc : Nat) (L : List (Nat × gV)) (st : List gV) (s : gS) : Prop := gW E (M_X3_diggable z0 n0 s') (gQm E (M_X3_diggable z0 n0 s') (.inl (some (vI r))) s') pc L st s
noncomputable def f_X3_diggable_30 (κ : gK) (F : Nat) (k9 : Option Nat → Int32 → Int32 → Int32 → gS → Option (Int32 × gS)) (l0 : Option Nat) (l1 : Int32) (l3 : Int32) (t0 : Int32) (t1 : Int32) (s : gS) : Option (Int32 × gS) :=
  k9 l0 l1 (t0 + t1) (l3 + (1 : Int32)) s
set_option maxHeartbeats 4000000 in
theorem w_X3_diggable_30 {E : gE} {F z0 n0 : Nat} {r : Int32} {s' : gS} {k9 : Option Nat → Int32 → Int32 → Int32 → gS → Option (Int32 × gS)} (hk9 : ∀ (l0 : Option Nat) (l1 : Int32) (l2 : Int32) (l3 : Int32) (s : gS), k9 l0 l1 l2 l3 s = some (r, s') → W_X3_diggable E z0 n0 r s' 9 [(0, vR l0), (1, vI l1), (2, vI l2), (3, vI l3)] [] s) : ∀ (l0 : Option Nat) (l1 : Int32) (l3 : Int32) (t0 : Int32) (t1 : Int32) (s : gS), f_X3_diggable_30 (gk E) F k9 l0 l1 l3 t0 t1 s = some (r, s') → W_X3_diggable E z0 n0 r s' 30 [(0, vR l0), (1, vI l1), (3, vI l3)] [vI t1, vI t0] s := by
  intro l0 l1 l3 t0 t1 s hB
  unfold f_X3_diggable_30 at hB
  refine gw_iadd dX3_diggable_30 ?_
  refine gw_istore_n (L' := [(2, vI (t0 + t1)), (0, vR l0), (1, vI l1), (3, vI l3)]) (Nat.le_of_ble_eq_true rfl) rfl dX3_diggable_31 ?_
  refine gw_iinc (w := (1 : Int32)) (L' := [(3, vI (l3 + (1 : Int32))), (2, vI (t0 + t1)), (0, vR l0), (1, vI l1)]) 3 rfl (by decide) (Nat.le_of_ble_eq_true rfl) rfl dX3_diggable_32 ?_
  refine gw_goto (tgt := 9) dX3_diggable_35 (by decide) ?_
  exact gw_sub [2, 3, 1, 0] rfl (hk9 _ _ _ _ _ hB)
noncomputable def f_X3_diggable_9b (κ : gK) (F : Nat) (k9 : Option Nat → Int32 → Int32 → Int32 → gS → Option (Int32 × gS)) (l0 : Option Nat) (l1 : Int32) (l2 : Int32) (l3 : Int32) (s : gS) : Option (Int32 × gS) :=
  if (32 : Int32) ≤ l3 then
    some (l2, s)
  else
    gB1 (gck s l0 7) fun _ =>
    gB2 (f_X3_canBeDug κ F l0 l3 l1 s) fun v2 s1 =>
    if v2 = 0 then
      f_X3_diggable_30 κ F k9 l0 l1 l3 l2 (0 : Int32) s1
    else
      f_X3_diggable_30 κ F k9 l0 l1 l3 l2 (1 : Int32) s1
noncomputable def f_X3_diggable_9 (κ : gK) (F : Nat)  : Nat → Option Nat → Int32 → Int32 → Int32 → gS → Option (Int32 × gS)
  | 0 => fun _ _ _ _ _ => none
  | n + 1 => f_X3_diggable_9b κ F  (f_X3_diggable_9 κ F  n)
set_option maxHeartbeats 4000000 in
theorem w_X3_diggable_9b {E : gE} {F z0 n0 : Nat} {r : Int32} {s' : gS} {k9 : Option Nat → Int32 → Int32 → Int32 → gS → Option (Int32 × gS)} (hk9 : ∀ (l0 : Option Nat) (l1 : Int32) (l2 : Int32) (l3 : Int32) (s : gS), k9 l0 l1 l2 l3 s = some (r, s') → W_X3_diggable E z0 n0 r s' 9 [(0, vR l0), (1, vI l1), (2, vI l2), (3, vI l3)] [] s) : ∀ (l0 : Option Nat) (l1 : Int32) (l2 : Int32) (l3 : Int32)  (s : gS), f_X3_diggable_9b (gk E) F k9 l0 l1 l2 l3 s = some (r, s') → W_X3_diggable E z0 n0 r s' 9 [(0, vR l0), (1, vI l1), (2, vI l2), (3, vI l3)] [] s := by
  intro l0 l1 l2 l3 s hB
  unfold f_X3_diggable_9b at hB
  refine gw_iload_n 3 rfl dX3_diggable_9 ?_
  refine gw_bipush (v := (32 : Int32)) (by decide) dX3_diggable_10 ?_
  refine gw_icmp_ge (tgt := 38) dX3_diggable_12 (by decide) (fun hcnd => ?_) (fun hcnd => ?_)
  · rw [if_pos hcnd] at hB
    refine gw_iload_n 2 rfl dX3_diggable_38 ?_
    obtain ⟨rfl, rfl⟩ := Prod.mk.inj (Option.some.inj hB)
    exact gw_iret rfl rfl rfl dX3_diggable_39
  · rw [if_neg hcnd] at hB
    refine gw_iload_n 2 rfl dX3_diggable_15 ?_
    refine gw_aload_n 0 rfl dX3_diggable_16 ?_
    refine gw_iload_n 3 rfl dX3_diggable_17 ?_
    refine gw_iload_n 1 rfl dX3_diggable_18 ?_
    obtain ⟨u0, hu3, hB⟩ := gB1_some hB
    obtain ⟨v2, s1, hv2, hB⟩ := gB2_some hB
    refine gw_callV (y := yX3_canBeDug) (lw_V q1311 q1312 q1313 q110 q1314) hdV_X3_canBeDug gcl7 hu3 (As := [vI l3, vI l1]) (rest := [vI l2]) (m_X3_canBeDug _ _ _ _ _ _ hv2) (Nat.le_of_ble_eq_true rfl) (Nat.le_of_ble_eq_true rfl) rfl (Nat.le_of_ble_eq_true rfl) dX3_diggable_19 (gCont_i ?_)
    refine gw_if_eq (tgt := 29) dX3_diggable_22 (by decide) (fun hcnd => ?_) (fun hcnd => ?_)
    · rw [if_pos hcnd] at hB
      refine gw_iconst (v := (0 : Int32)) (by decide) dX3_diggable_29 ?_
      exact gw_sub [0, 1, 3] rfl (w_X3_diggable_30 hk9 _ _ _ _ _ _ hB)
    · rw [if_neg hcnd] at hB
      refine gw_iconst (v := (1 : Int32)) (by decide) dX3_diggable_25 ?_
      refine gw_goto (tgt := 30) dX3_diggable_26 (by decide) ?_
      exact gw_sub [0, 1, 3] rfl (w_X3_diggable_30 hk9 _ _ _ _ _ _ hB)
theorem w_X3_diggable_9 {E : gE} {F z0 n0 : Nat} {r : Int32} {s' : gS}   : ∀ (n : Nat) (l0 : Option Nat) (l1 : Int32) (l2 : Int32) (l3 : Int32)  (s : gS), f_X3_diggable_9 (gk E) F  n l0 l1 l2 l3 s = some (r, s') → W_X3_diggable E z0 n0 r s' 9 [(0, vR l0), (1, vI l1), (2, vI l2), (3, vI l3)] [] s := by
  intro n
  induction n with
  | zero => intro l0 l1 l2 l3 s hB; cases hB
  | succ n ih => intro l0 l1 l2 l3 s hB; exact w_X3_diggable_9b ih l0 l1 l2 l3 s hB
noncomputable def f_X3_diggable_0 (κ : gK) (F : Nat)  (l0 : Option Nat) (s : gS) : Option (Int32 × gS) :=
  gB1 (gck s l0 7) fun _ =>
  gB2 (f_X3_needed κ F l0  s) fun v2 s1 =>
  f_X3_diggable_9 κ F  F l0 v2 (0 : Int32) (0 : Int32) s1
set_option maxHeartbeats 4000000 in
theorem w_X3_diggable_0 {E : gE} {F z0 n0 : Nat} {r : Int32} {s' : gS}   : ∀ (l0 : Option Nat)  (s : gS), f_X3_diggable_0 (gk E) F  l0 s = some (r, s') → W_X3_diggable E z0 n0 r s' 0 [(0, vR l0)] [] s := by
  intro l0 s hB
  unfold f_X3_diggable_0 at hB
  refine gw_aload_n 0 rfl dX3_diggable_0 ?_
  obtain ⟨u0, hu3, hB⟩ := gB1_some hB
  obtain ⟨v2, s1, hv2, hB⟩ := gB2_some hB
  refine gw_callV (y := yX3_needed) (lw_V q1294 q1295 q1296 q110 q1297) hdV_X3_needed gcl7 hu3 (As := []) (rest := []) (m_X3_needed _ _ _ _ hv2) (Nat.le_of_ble_eq_true rfl) (Nat.le_of_ble_eq_true rfl) rfl (Nat.le_of_ble_eq_true rfl) dX3_diggable_1 (gCont_i ?_)
  refine gw_istore_n (L' := [(1, vI v2), (0, vR l0)]) (Nat.le_of_ble_eq_true rfl) rfl dX3_diggable_4 ?_
  refine gw_iconst (v := (0 : Int32)) (by decide) dX3_diggable_5 ?_
  refine gw_istore_n (L' := [(2, vI (0 : Int32)), (1, vI v2), (0, vR l0)]) (Nat.le_of_ble_eq_true rfl) rfl dX3_diggable_6 ?_
  refine gw_iconst (v := (0 : Int32)) (by decide) dX3_diggable_7 ?_
  refine gw_istore_n (L' := [(3, vI (0 : Int32)), (2, vI (0 : Int32)), (1, vI v2), (0, vR l0)]) (Nat.le_of_ble_eq_true rfl) rfl dX3_diggable_8 ?_
  exact gw_sub [3, 2, 1, 0] rfl (w_X3_diggable_9  F _ _ _ _ _ hB)
noncomputable def f_X3_diggable (κ : gK) (F : Nat) (a0 : Option Nat) (s : gS) : Option (Int32 × gS) := f_X3_diggable_0 κ F a0 s
theorem m_X3_diggable {E : gE} {F : Nat} (a0 : Option Nat) (s : gS) (r : Int32) (s' : gS) (h : f_X3_diggable (gk E) F a0 s = some (r, s')) : gCT E 5 yX3_diggable (ws_ yX3_diggable cX3_diggable 4 (some FieldType.int)) [vR a0] s (.inl (some (vI r))) s' := by
  refine gCT_of2 (fun h => absurd h (by decide)) (plainFor_of_name (by decide)) (Nat.le_of_ble_eq_true rfl) ?_
  exact gw_sub [0] rfl (w_X3_diggable_0 _ _ h)
def dkwX3_inState_2 : List UInt8 := [172]
abbrev dktX3_inState_2 : List UInt8 := dkwX3_inState_2 ++ []
def dkwX3_inState_1 : List UInt8 := [50, 58, 6, 28, 25, 6, 43, 166, 0, 7, 4, 167, 0, 4, 3, 96, 61, 132, 5, 1, 167, 255, 226, 28]
abbrev dktX3_inState_1 : List UInt8 := dkwX3_inState_1 ++ dktX3_inState_2
def dkwX3_inState_0 : List UInt8 := [3, 61, 42, 180, 0, 20, 78, 45, 190, 54, 4, 3, 54, 5, 21, 5, 21, 4, 162, 0, 29, 45, 21, 5]
abbrev dktX3_inState_0 : List UInt8 := dkwX3_inState_0 ++ dktX3_inState_1
theorem dksX3_inState_0 : cX3_inState.data.toList.drop 0 = dktX3_inState_0 := by decide +kernel
theorem dksX3_inState_1 : cX3_inState.data.toList.drop 24 = dktX3_inState_1 := dk_seg dksX3_inState_0 24 rfl rfl
theorem dksX3_inState_2 : cX3_inState.data.toList.drop 48 = dktX3_inState_2 := dk_seg dksX3_inState_1 24 rfl rfl
theorem dX3_inState_0 : decode cX3_inState 0 = .ok (.iconst 0, 1) := dk_3 (dk_at dksX3_inState_0 0 rfl rfl)
theorem dX3_inState_1 : decode cX3_inState 1 = .ok (.istore_n 2, 1) := dk_61 (dk_at dksX3_inState_0 1 rfl rfl)
theorem dX3_inState_2 : decode cX3_inState 2 = .ok (.aload_n 0, 1) := dk_42 (dk_at dksX3_inState_0 2 rfl rfl)
theorem dX3_inState_3 : decode cX3_inState 3 = .ok (.getfield 20, 3) := dk_180 0 20 (dk_at dksX3_inState_0 3 rfl rfl)
theorem dX3_inState_6 : decode cX3_inState 6 = .ok (.astore_n 3, 1) := dk_78 (dk_at dksX3_inState_0 6 rfl rfl)
theorem dX3_inState_7 : decode cX3_inState 7 = .ok (.aload_n 3, 1) := dk_45 (dk_at dksX3_inState_0 7 rfl rfl)
theorem dX3_inState_8 : decode cX3_inState 8 = .ok (.arraylength, 1) := dk_190 (dk_at dksX3_inState_0 8 rfl rfl)
theorem dX3_inState_9 : decode cX3_inState 9 = .ok (.istore 4, 2) := dk_54 4 (dk_at dksX3_inState_0 9 rfl rfl)
theorem dX3_inState_11 : decode cX3_inState 11 = .ok (.iconst 0, 1) := dk_3 (dk_at dksX3_inState_0 11 rfl rfl)
theorem dX3_inState_12 : decode cX3_inState 12 = .ok (.istore 5, 2) := dk_54 5 (dk_at dksX3_inState_0 12 rfl rfl)
theorem dX3_inState_14 : decode cX3_inState 14 = .ok (.iload 5, 2) := dk_21 5 (dk_at dksX3_inState_0 14 rfl rfl)
theorem dX3_inState_16 : decode cX3_inState 16 = .ok (.iload 4, 2) := dk_21 4 (dk_at dksX3_inState_0 16 rfl rfl)
theorem dX3_inState_18 : decode cX3_inState 18 = .ok (.if_icmp .ge 29, 3) := dk_162 0 29 (dk_at dksX3_inState_0 18 rfl rfl)
theorem dX3_inState_21 : decode cX3_inState 21 = .ok (.aload_n 3, 1) := dk_45 (dk_at dksX3_inState_0 21 rfl rfl)
theorem dX3_inState_22 : decode cX3_inState 22 = .ok (.iload 5, 2) := dk_21 5 (dk_at dksX3_inState_0 22 rfl rfl)
theorem dX3_inState_24 : decode cX3_inState 24 = .ok (.aaload, 1) := dk_50 (dk_at dksX3_inState_1 0 rfl rfl)
theorem dX3_inState_25 : decode cX3_inState 25 = .ok (.astore 6, 2) := dk_58 6 (dk_at dksX3_inState_1 1 rfl rfl)
theorem dX3_inState_27 : decode cX3_inState 27 = .ok (.iload_n 2, 1) := dk_28 (dk_at dksX3_inState_1 3 rfl rfl)
theorem dX3_inState_28 : decode cX3_inState 28 = .ok (.aload 6, 2) := dk_25 6 (dk_at dksX3_inState_1 4 rfl rfl)
theorem dX3_inState_30 : decode cX3_inState 30 = .ok (.aload_n 1, 1) := dk_43 (dk_at dksX3_inState_1 6 rfl rfl)
theorem dX3_inState_31 : decode cX3_inState 31 = .ok (.if_acmp .ne 7, 3) := dk_166 0 7 (dk_at dksX3_inState_1 7 rfl rfl)
theorem dX3_inState_34 : decode cX3_inState 34 = .ok (.iconst 1, 1) := dk_4 (dk_at dksX3_inState_1 10 rfl rfl)
theorem dX3_inState_35 : decode cX3_inState 35 = .ok (.goto 4, 3) := dk_167 0 4 (dk_at dksX3_inState_1 11 rfl rfl)
theorem dX3_inState_38 : decode cX3_inState 38 = .ok (.iconst 0, 1) := dk_3 (dk_at dksX3_inState_1 14 rfl rfl)
theorem dX3_inState_39 : decode cX3_inState 39 = .ok (.iadd, 1) := dk_96 (dk_at dksX3_inState_1 15 rfl rfl)
theorem dX3_inState_40 : decode cX3_inState 40 = .ok (.istore_n 2, 1) := dk_61 (dk_at dksX3_inState_1 16 rfl rfl)
theorem dX3_inState_41 : decode cX3_inState 41 = .ok (.iinc 5 1, 3) := dk_132 5 1 (dk_at dksX3_inState_1 17 rfl rfl)
theorem dX3_inState_44 : decode cX3_inState 44 = .ok (.goto (-30), 3) := dk_167 255 226 (dk_at dksX3_inState_1 20 rfl rfl)
theorem dX3_inState_47 : decode cX3_inState 47 = .ok (.iload_n 2, 1) := dk_28 (dk_at dksX3_inState_1 23 rfl rfl)
theorem dX3_inState_48 : decode cX3_inState 48 = .ok (.ireturn, 1) := dk_172 (dk_at dksX3_inState_2 0 rfl rfl)
/-! PageGarden$Garden.inState(LPageGarden$State;)I -/
abbrev M_X3_inState (z0 n0 : Nat) (s' : gS) : gM := (RX3, cX3_inState, 7, (some FieldType.int), "inState", [], 1, z0, n0, s'.2.1, s'.2.2)
abbrev W_X3_inState (E : gE) (z0 n0 : Nat) (r : Int32) (s' : gS) (pc : Nat) (L : List (Nat × gV)) (st : List gV) (s : gS) : Prop := gW E (M_X3_inState z0 n0 s') (gQm E (M_X3_inState z0 n0 s') (.inl (some (vI r))) s') pc L st s
noncomputable def f_X3_inState_39 (κ : gK) (F : Nat) (k14 : Option Nat → Int32 → Option Nat → Int32 → Int32 → gS → Option (Int32 × gS)) (l1 : Option Nat) (l3 : Option Nat) (l4 : Int32) (l5 : Int32) (t0 : Int32) (t1 : Int32) (s : gS) : Option (Int32 × gS) :=
  k14 l1 (t0 + t1) l3 l4 (l5 + (1 : Int32)) s
set_option maxHeartbeats 4000000 in
theorem w_X3_inState_39 {E : gE} {F z0 n0 : Nat} {r : Int32} {s' : gS} {k14 : Option Nat → Int32 → Option Nat → Int32 → Int32 → gS → Option (Int32 × gS)} (hk14 : ∀ (l1 : Option Nat) (l2 : Int32) (l3 : Option Nat) (l4 : Int32) (l5 : Int32) (s : gS), k14 l1 l2 l3 l4 l5 s = some (r, s') → W_X3_inState E z0 n0 r s' 14 [(1, vR l1), (2, vI l2), (3, vR l3), (4, vI l4), (5, vI l5)] [] s) : ∀ (l1 : Option Nat) (l3 : Option Nat) (l4 : Int32) (l5 : Int32) (t0 : Int32) (t1 : Int32) (s : gS), f_X3_inState_39 (gk E) F k14 l1 l3 l4 l5 t0 t1 s = some (r, s') → W_X3_inState E z0 n0 r s' 39 [(1, vR l1), (3, vR l3), (4, vI l4), (5, vI l5)] [vI t1, vI t0] s := by
  intro l1 l3 l4 l5 t0 t1 s hB
  unfold f_X3_inState_39 at hB
  refine gw_iadd dX3_inState_39 ?_
  refine gw_istore_n (L' := [(2, vI (t0 + t1)), (1, vR l1), (3, vR l3), (4, vI l4), (5, vI l5)]) (Nat.le_of_ble_eq_true rfl) rfl dX3_inState_40 ?_
  refine gw_iinc (w := (1 : Int32)) (L' := [(5, vI (l5 + (1 : Int32))), (2, vI (t0 + t1)), (1, vR l1), (3, vR l3), (4, vI l4)]) 4 rfl (by decide) (Nat.le_of_ble_eq_true rfl) rfl dX3_inState_41 ?_
  refine gw_goto (tgt := 14) dX3_inState_44 (by decide) ?_
  exact gw_sub [2, 1, 3, 4, 0] rfl (hk14 _ _ _ _ _ _ hB)
noncomputable def f_X3_inState_14b (κ : gK) (F : Nat) (k14 : Option Nat → Int32 → Option Nat → Int32 → Int32 → gS → Option (Int32 × gS)) (l1 : Option Nat) (l2 : Int32) (l3 : Option Nat) (l4 : Int32) (l5 : Int32) (s : gS) : Option (Int32 × gS) :=
  if l4 ≤ l5 then
    some (l2, s)
  else
    gB1 (gaR s l3 l5) fun v1 =>
    if v1 = l1 then
      f_X3_inState_39 κ F k14 l1 l3 l4 l5 l2 (1 : Int32) s
    else
      f_X3_inState_39 κ F k14 l1 l3 l4 l5 l2 (0 : Int32) s
noncomputable def f_X3_inState_14 (κ : gK) (F : Nat)  : Nat → Option Nat → Int32 → Option Nat → Int32 → Int32 → gS → Option (Int32 × gS)
  | 0 => fun _ _ _ _ _ _ => none
  | n + 1 => f_X3_inState_14b κ F  (f_X3_inState_14 κ F  n)
set_option maxHeartbeats 4000000 in
theorem w_X3_inState_14b {E : gE} {F z0 n0 : Nat} {r : Int32} {s' : gS} {k14 : Option Nat → Int32 → Option Nat → Int32 → Int32 → gS → Option (Int32 × gS)} (hk14 : ∀ (l1 : Option Nat) (l2 : Int32) (l3 : Option Nat) (l4 : Int32) (l5 : Int32) (s : gS), k14 l1 l2 l3 l4 l5 s = some (r, s') → W_X3_inState E z0 n0 r s' 14 [(1, vR l1), (2, vI l2), (3, vR l3), (4, vI l4), (5, vI l5)] [] s) : ∀ (l1 : Option Nat) (l2 : Int32) (l3 : Option Nat) (l4 : Int32) (l5 : Int32)  (s : gS), f_X3_inState_14b (gk E) F k14 l1 l2 l3 l4 l5 s = some (r, s') → W_X3_inState E z0 n0 r s' 14 [(1, vR l1), (2, vI l2), (3, vR l3), (4, vI l4), (5, vI l5)] [] s := by
  intro l1 l2 l3 l4 l5 s hB
  unfold f_X3_inState_14b at hB
  refine gw_iload 4 rfl dX3_inState_14 ?_
  refine gw_iload 3 rfl dX3_inState_16 ?_
  refine gw_icmp_ge (tgt := 47) dX3_inState_18 (by decide) (fun hcnd => ?_) (fun hcnd => ?_)
  · rw [if_pos hcnd] at hB
    refine gw_iload_n 1 rfl dX3_inState_47 ?_
    obtain ⟨rfl, rfl⟩ := Prod.mk.inj (Option.some.inj hB)
    exact gw_iret rfl rfl rfl dX3_inState_48
  · rw [if_neg hcnd] at hB
    refine gw_aload_n 2 rfl dX3_inState_21 ?_
    refine gw_iload 4 rfl dX3_inState_22 ?_
    obtain ⟨v1, hv1, hB⟩ := gB1_some hB
    refine gw_aaload hv1 dX3_inState_24 ?_
    refine gw_astore (L' := [(6, vR v1), (1, vR l1), (2, vI l2), (3, vR l3), (4, vI l4), (5, vI l5)]) (Nat.le_of_ble_eq_true rfl) rfl dX3_inState_25 ?_
    refine gw_iload_n 2 rfl dX3_inState_27 ?_
    refine gw_aload 0 rfl dX3_inState_28 ?_
    refine gw_aload_n 1 rfl dX3_inState_30 ?_
    refine gw_acmp_ne (tgt := 38) dX3_inState_31 (by decide) (fun hcnd => ?_) (fun hcnd => ?_)
    · rw [if_neg hcnd] at hB
      refine gw_iconst (v := (0 : Int32)) (by decide) dX3_inState_38 ?_
      exact gw_sub [1, 3, 4, 5] rfl (w_X3_inState_39 hk14 _ _ _ _ _ _ _ hB)
    · rw [if_pos hcnd] at hB
      refine gw_iconst (v := (1 : Int32)) (by decide) dX3_inState_34 ?_
      refine gw_goto (tgt := 39) dX3_inState_35 (by decide) ?_
      exact gw_sub [1, 3, 4, 5] rfl (w_X3_inState_39 hk14 _ _ _ _ _ _ _ hB)
theorem w_X3_inState_14 {E : gE} {F z0 n0 : Nat} {r : Int32} {s' : gS}   : ∀ (n : Nat) (l1 : Option Nat) (l2 : Int32) (l3 : Option Nat) (l4 : Int32) (l5 : Int32)  (s : gS), f_X3_inState_14 (gk E) F  n l1 l2 l3 l4 l5 s = some (r, s') → W_X3_inState E z0 n0 r s' 14 [(1, vR l1), (2, vI l2), (3, vR l3), (4, vI l4), (5, vI l5)] [] s := by
  intro n
  induction n with
  | zero => intro l1 l2 l3 l4 l5 s hB; cases hB
  | succ n ih => intro l1 l2 l3 l4 l5 s hB; exact w_X3_inState_14b ih l1 l2 l3 l4 l5 s hB
noncomputable def f_X3_inState_0 (κ : gK) (F : Nat)  (l0 : Option Nat) (l1 : Option Nat) (s : gS) : Option (Int32 × gS) :=
  gB1 (gfR s l0 7 1) fun v1 =>
  gB1 (gal s v1) fun v2 =>
  f_X3_inState_14 κ F  F l1 (0 : Int32) v1 v2 (0 : Int32) s
set_option maxHeartbeats 4000000 in
theorem w_X3_inState_0 {E : gE} {F z0 n0 : Nat} {r : Int32} {s' : gS}   : ∀ (l0 : Option Nat) (l1 : Option Nat)  (s : gS), f_X3_inState_0 (gk E) F  l0 l1 s = some (r, s') → W_X3_inState E z0 n0 r s' 0 [(0, vR l0), (1, vR l1)] [] s := by
  intro l0 l1 s hB
  unfold f_X3_inState_0 at hB
  refine gw_iconst (v := (0 : Int32)) (by decide) dX3_inState_0 ?_
  refine gw_istore_n (L' := [(2, vI (0 : Int32)), (0, vR l0), (1, vR l1)]) (Nat.le_of_ble_eq_true rfl) rfl dX3_inState_1 ?_
  refine gw_aload_n 1 rfl dX3_inState_2 ?_
  obtain ⟨v1, hv1, hB⟩ := gB1_some hB
  refine gw_getf (C := RX3) (T := TX3) (N := 9) (k := 1) gcl7 (by decide) in_X3 q282 (gfR_spec hv1) dX3_inState_3 ?_
  refine gw_astore_n (L' := [(3, vR v1), (2, vI (0 : Int32)), (0, vR l0), (1, vR l1)]) (Nat.le_of_ble_eq_true rfl) rfl dX3_inState_6 ?_
  refine gw_aload_n 0 rfl dX3_inState_7 ?_
  obtain ⟨v2, hv2, hB⟩ := gB1_some hB
  refine gw_alen hv2 dX3_inState_8 ?_
  refine gw_istore (L' := [(4, vI v2), (3, vR v1), (2, vI (0 : Int32)), (0, vR l0), (1, vR l1)]) (Nat.le_of_ble_eq_true rfl) rfl dX3_inState_9 ?_
  refine gw_iconst (v := (0 : Int32)) (by decide) dX3_inState_11 ?_
  refine gw_istore (L' := [(5, vI (0 : Int32)), (4, vI v2), (3, vR v1), (2, vI (0 : Int32)), (0, vR l0), (1, vR l1)]) (Nat.le_of_ble_eq_true rfl) rfl dX3_inState_12 ?_
  exact gw_sub [5, 3, 2, 1, 0] rfl (w_X3_inState_14  F _ _ _ _ _ _ hB)
noncomputable def f_X3_inState (κ : gK) (F : Nat) (a0 : Option Nat) (a1 : Option Nat) (s : gS) : Option (Int32 × gS) := f_X3_inState_0 κ F a0 a1 s
theorem m_X3_inState {E : gE} {F : Nat} (a0 : Option Nat) (a1 : Option Nat) (s : gS) (r : Int32) (s' : gS) (h : f_X3_inState (gk E) F a0 a1 s = some (r, s')) : gCT E 1 yX3_inState (ws_ yX3_inState cX3_inState 7 (some FieldType.int)) [vR a0, vR a1] s (.inl (some (vI r))) s' := by
  refine gCT_of2 (fun h => absurd h (by decide)) (plainFor_of_name (by decide)) (Nat.le_of_ble_eq_true rfl) ?_
  exact gw_sub [0, 1] rfl (w_X3_inState_0 _ _ _ h)
def dkwX3_canRemove_4 : List UInt8 := [178, 0, 42, 182, 1, 4, 96, 163, 0, 7, 4, 167, 0, 4, 3, 172]
abbrev dktX3_canRemove_4 : List UInt8 := dkwX3_canRemove_4 ++ []
def dkwX3_canRemove_3 : List UInt8 := [167, 0, 4, 4, 21, 4, 153, 0, 7, 4, 167, 0, 4, 3, 96, 54, 5, 21, 5, 42, 182, 1, 1, 42]
abbrev dktX3_canRemove_3 : List UInt8 := dkwX3_canRemove_3 ++ dktX3_canRemove_4
def dkwX3_canRemove_2 : List UInt8 := [167, 0, 4, 3, 54, 4, 42, 180, 0, 80, 42, 180, 0, 80, 180, 0, 230, 182, 0, 207, 153, 0, 7, 3]
abbrev dktX3_canRemove_2 : List UInt8 := dkwX3_canRemove_2 ++ dktX3_canRemove_3
def dkwX3_canRemove_1 : List UInt8 := [42, 180, 0, 80, 29, 182, 0, 207, 154, 0, 19, 42, 29, 182, 0, 116, 182, 0, 249, 4, 164, 0, 7, 4]
abbrev dktX3_canRemove_1 : List UInt8 := dkwX3_canRemove_1 ++ dktX3_canRemove_2
def dkwX3_canRemove_0 : List UInt8 := [42, 42, 180, 0, 80, 180, 0, 230, 182, 0, 123, 77, 44, 180, 0, 113, 42, 44, 27, 182, 0, 127, 46, 62]
abbrev dktX3_canRemove_0 : List UInt8 := dkwX3_canRemove_0 ++ dktX3_canRemove_1
theorem dksX3_canRemove_0 : cX3_canRemove.data.toList.drop 0 = dktX3_canRemove_0 := by decide +kernel
theorem dksX3_canRemove_1 : cX3_canRemove.data.toList.drop 24 = dktX3_canRemove_1 := dk_seg dksX3_canRemove_0 24 rfl rfl
theorem dksX3_canRemove_2 : cX3_canRemove.data.toList.drop 48 = dktX3_canRemove_2 := dk_seg dksX3_canRemove_1 24 rfl rfl
theorem dksX3_canRemove_3 : cX3_canRemove.data.toList.drop 72 = dktX3_canRemove_3 := dk_seg dksX3_canRemove_2 24 rfl rfl
theorem dksX3_canRemove_4 : cX3_canRemove.data.toList.drop 96 = dktX3_canRemove_4 := dk_seg dksX3_canRemove_3 24 rfl rfl
theorem dX3_canRemove_0 : decode cX3_canRemove 0 = .ok (.aload_n 0, 1) := dk_42 (dk_at dksX3_canRemove_0 0 rfl rfl)
theorem dX3_canRemove_1 : decode cX3_canRemove 1 = .ok (.aload_n 0, 1) := dk_42 (dk_at dksX3_canRemove_0 1 rfl rfl)
theorem dX3_canRemove_2 : decode cX3_canRemove 2 = .ok (.getfield 80, 3) := dk_180 0 80 (dk_at dksX3_canRemove_0 2 rfl rfl)
theorem dX3_canRemove_5 : decode cX3_canRemove 5 = .ok (.getfield 230, 3) := dk_180 0 230 (dk_at dksX3_canRemove_0 5 rfl rfl)
theorem dX3_canRemove_8 : decode cX3_canRemove 8 = .ok (.invokevirtual 123, 3) := dk_182 0 123 (dk_at dksX3_canRemove_0 8 rfl rfl)
theorem dX3_canRemove_11 : decode cX3_canRemove 11 = .ok (.astore_n 2, 1) := dk_77 (dk_at dksX3_canRemove_0 11 rfl rfl)
theorem dX3_canRemove_12 : decode cX3_canRemove 12 = .ok (.aload_n 2, 1) := dk_44 (dk_at dksX3_canRemove_0 12 rfl rfl)
theorem dX3_canRemove_13 : decode cX3_canRemove 13 = .ok (.getfield 113, 3) := dk_180 0 113 (dk_at dksX3_canRemove_0 13 rfl rfl)
theorem dX3_canRemove_16 : decode cX3_canRemove 16 = .ok (.aload_n 0, 1) := dk_42 (dk_at dksX3_canRemove_0 16 rfl rfl)
theorem dX3_canRemove_17 : decode cX3_canRemove 17 = .ok (.aload_n 2, 1) := dk_44 (dk_at dksX3_canRemove_0 17 rfl rfl)
theorem dX3_canRemove_18 : decode cX3_canRemove 18 = .ok (.iload_n 1, 1) := dk_27 (dk_at dksX3_canRemove_0 18 rfl rfl)
theorem dX3_canRemove_19 : decode cX3_canRemove 19 = .ok (.invokevirtual 127, 3) := dk_182 0 127 (dk_at dksX3_canRemove_0 19 rfl rfl)
theorem dX3_canRemove_22 : decode cX3_canRemove 22 = .ok (.iaload, 1) := dk_46 (dk_at dksX3_canRemove_0 22 rfl rfl)
theorem dX3_canRemove_23 : decode cX3_canRemove 23 = .ok (.istore_n 3, 1) := dk_62 (dk_at dksX3_canRemove_0 23 rfl rfl)
theorem dX3_canRemove_24 : decode cX3_canRemove 24 = .ok (.aload_n 0, 1) := dk_42 (dk_at dksX3_canRemove_1 0 rfl rfl)
theorem dX3_canRemove_25 : decode cX3_canRemove 25 = .ok (.getfield 80, 3) := dk_180 0 80 (dk_at dksX3_canRemove_1 1 rfl rfl)
theorem dX3_canRemove_28 : decode cX3_canRemove 28 = .ok (.iload_n 3, 1) := dk_29 (dk_at dksX3_canRemove_1 4 rfl rfl)
theorem dX3_canRemove_29 : decode cX3_canRemove 29 = .ok (.invokevirtual 207, 3) := dk_182 0 207 (dk_at dksX3_canRemove_1 5 rfl rfl)
theorem dX3_canRemove_32 : decode cX3_canRemove 32 = .ok (.ifCond .ne 19, 3) := dk_154 0 19 (dk_at dksX3_canRemove_1 8 rfl rfl)
theorem dX3_canRemove_35 : decode cX3_canRemove 35 = .ok (.aload_n 0, 1) := dk_42 (dk_at dksX3_canRemove_1 11 rfl rfl)
theorem dX3_canRemove_36 : decode cX3_canRemove 36 = .ok (.iload_n 3, 1) := dk_29 (dk_at dksX3_canRemove_1 12 rfl rfl)
theorem dX3_canRemove_37 : decode cX3_canRemove 37 = .ok (.invokevirtual 116, 3) := dk_182 0 116 (dk_at dksX3_canRemove_1 13 rfl rfl)
theorem dX3_canRemove_40 : decode cX3_canRemove 40 = .ok (.invokevirtual 249, 3) := dk_182 0 249 (dk_at dksX3_canRemove_1 16 rfl rfl)
theorem dX3_canRemove_43 : decode cX3_canRemove 43 = .ok (.iconst 1, 1) := dk_4 (dk_at dksX3_canRemove_1 19 rfl rfl)
theorem dX3_canRemove_44 : decode cX3_canRemove 44 = .ok (.if_icmp .le 7, 3) := dk_164 0 7 (dk_at dksX3_canRemove_1 20 rfl rfl)
theorem dX3_canRemove_47 : decode cX3_canRemove 47 = .ok (.iconst 1, 1) := dk_4 (dk_at dksX3_canRemove_1 23 rfl rfl)
theorem dX3_canRemove_48 : decode cX3_canRemove 48 = .ok (.goto 4, 3) := dk_167 0 4 (dk_at dksX3_canRemove_2 0 rfl rfl)
theorem dX3_canRemove_51 : decode cX3_canRemove 51 = .ok (.iconst 0, 1) := dk_3 (dk_at dksX3_canRemove_2 3 rfl rfl)
theorem dX3_canRemove_52 : decode cX3_canRemove 52 = .ok (.istore 4, 2) := dk_54 4 (dk_at dksX3_canRemove_2 4 rfl rfl)
theorem dX3_canRemove_54 : decode cX3_canRemove 54 = .ok (.aload_n 0, 1) := dk_42 (dk_at dksX3_canRemove_2 6 rfl rfl)
theorem dX3_canRemove_55 : decode cX3_canRemove 55 = .ok (.getfield 80, 3) := dk_180 0 80 (dk_at dksX3_canRemove_2 7 rfl rfl)
theorem dX3_canRemove_58 : decode cX3_canRemove 58 = .ok (.aload_n 0, 1) := dk_42 (dk_at dksX3_canRemove_2 10 rfl rfl)
theorem dX3_canRemove_59 : decode cX3_canRemove 59 = .ok (.getfield 80, 3) := dk_180 0 80 (dk_at dksX3_canRemove_2 11 rfl rfl)
theorem dX3_canRemove_62 : decode cX3_canRemove 62 = .ok (.getfield 230, 3) := dk_180 0 230 (dk_at dksX3_canRemove_2 14 rfl rfl)
theorem dX3_canRemove_65 : decode cX3_canRemove 65 = .ok (.invokevirtual 207, 3) := dk_182 0 207 (dk_at dksX3_canRemove_2 17 rfl rfl)
theorem dX3_canRemove_68 : decode cX3_canRemove 68 = .ok (.ifCond .eq 7, 3) := dk_153 0 7 (dk_at dksX3_canRemove_2 20 rfl rfl)
theorem dX3_canRemove_71 : decode cX3_canRemove 71 = .ok (.iconst 0, 1) := dk_3 (dk_at dksX3_canRemove_2 23 rfl rfl)
theorem dX3_canRemove_72 : decode cX3_canRemove 72 = .ok (.goto 4, 3) := dk_167 0 4 (dk_at dksX3_canRemove_3 0 rfl rfl)
theorem dX3_canRemove_75 : decode cX3_canRemove 75 = .ok (.iconst 1, 1) := dk_4 (dk_at dksX3_canRemove_3 3 rfl rfl)
theorem dX3_canRemove_76 : decode cX3_canRemove 76 = .ok (.iload 4, 2) := dk_21 4 (dk_at dksX3_canRemove_3 4 rfl rfl)
theorem dX3_canRemove_78 : decode cX3_canRemove 78 = .ok (.ifCond .eq 7, 3) := dk_153 0 7 (dk_at dksX3_canRemove_3 6 rfl rfl)
theorem dX3_canRemove_81 : decode cX3_canRemove 81 = .ok (.iconst 1, 1) := dk_4 (dk_at dksX3_canRemove_3 9 rfl rfl)
theorem dX3_canRemove_82 : decode cX3_canRemove 82 = .ok (.goto 4, 3) := dk_167 0 4 (dk_at dksX3_canRemove_3 10 rfl rfl)
theorem dX3_canRemove_85 : decode cX3_canRemove 85 = .ok (.iconst 0, 1) := dk_3 (dk_at dksX3_canRemove_3 13 rfl rfl)
theorem dX3_canRemove_86 : decode cX3_canRemove 86 = .ok (.iadd, 1) := dk_96 (dk_at dksX3_canRemove_3 14 rfl rfl)
theorem dX3_canRemove_87 : decode cX3_canRemove 87 = .ok (.istore 5, 2) := dk_54 5 (dk_at dksX3_canRemove_3 15 rfl rfl)
theorem dX3_canRemove_89 : decode cX3_canRemove 89 = .ok (.iload 5, 2) := dk_21 5 (dk_at dksX3_canRemove_3 17 rfl rfl)
theorem dX3_canRemove_91 : decode cX3_canRemove 91 = .ok (.aload_n 0, 1) := dk_42 (dk_at dksX3_canRemove_3 19 rfl rfl)
theorem dX3_canRemove_92 : decode cX3_canRemove 92 = .ok (.invokevirtual 257, 3) := dk_182 1 1 (dk_at dksX3_canRemove_3 20 rfl rfl)
theorem dX3_canRemove_95 : decode cX3_canRemove 95 = .ok (.aload_n 0, 1) := dk_42 (dk_at dksX3_canRemove_3 23 rfl rfl)
theorem dX3_canRemove_96 : decode cX3_canRemove 96 = .ok (.getstatic 42, 3) := dk_178 0 42 (dk_at dksX3_canRemove_4 0 rfl rfl)
theorem dX3_canRemove_99 : decode cX3_canRemove 99 = .ok (.invokevirtual 260, 3) := dk_182 1 4 (dk_at dksX3_canRemove_4 3 rfl rfl)
theorem dX3_canRemove_102 : decode cX3_canRemove 102 = .ok (.iadd, 1) := dk_96 (dk_at dksX3_canRemove_4 6 rfl rfl)
theorem dX3_canRemove_103 : decode cX3_canRemove 103 = .ok (.if_icmp .gt 7, 3) := dk_163 0 7 (dk_at dksX3_canRemove_4 7 rfl rfl)
theorem dX3_canRemove_106 : decode cX3_canRemove 106 = .ok (.iconst 1, 1) := dk_4 (dk_at dksX3_canRemove_4 10 rfl rfl)
theorem dX3_canRemove_107 : decode cX3_canRemove 107 = .ok (.goto 4, 3) := dk_167 0 4 (dk_at dksX3_canRemove_4 11 rfl rfl)
theorem dX3_canRemove_110 : decode cX3_canRemove 110 = .ok (.iconst 0, 1) := dk_3 (dk_at dksX3_canRemove_4 14 rfl rfl)
theorem dX3_canRemove_111 : decode cX3_canRemove 111 = .ok (.ireturn, 1) := dk_172 (dk_at dksX3_canRemove_4 15 rfl rfl)
/-! PageGarden$Garden.canRemove(I)Z -/
abbrev M_X3_canRemove (z0 n0 : Nat) (s' : gS) : gM := (RX3, cX3_canRemove, 6, (some FieldType.boolean), "canRemove", [], 8, z0, n0, s'.2.1, s'.2.2)
abbrev W_X3_canRemove (E : gE) (z0 n0 : Nat) (r : Int32) (s' : gS) (pc : Nat) (L : List (Nat × gV)) (st : List gV) (s : gS) : Prop := gW E (M_X3_canRemove z0 n0 s') (gQm E (M_X3_canRemove z0 n0 s') (.inl (some (vI r))) s') pc L st s
noncomputable def f_X3_canRemove_111 (κ : gK) (F : Nat)  (t0 : Int32) (s : gS) : Option (Int32 × gS) :=
  gB1 (gok .boolean t0) fun _ => some (t0, s)
set_option maxHeartbeats 4000000 in
theorem w_X3_canRemove_111 {E : gE} {F z0 n0 : Nat} {r : Int32} {s' : gS}   : ∀  (t0 : Int32) (s : gS), f_X3_canRemove_111 (gk E) F  t0 s = some (r, s') → W_X3_canRemove E z0 n0 r s' 111 [] [vI t0] s := by
  intro t0 s hB
  unfold f_X3_canRemove_111 at hB
  obtain ⟨u, hu, hB⟩ := gB1_some hB
  obtain ⟨rfl, rfl⟩ := Prod.mk.inj (Option.some.inj hB)
  exact gw_zret rfl hu rfl rfl dX3_canRemove_111
noncomputable def f_X3_canRemove_86 (κ : gK) (F : Nat)  (l0 : Option Nat) (t0 : Int32) (t1 : Int32) (s : gS) : Option (Int32 × gS) :=
  gB1 (gck s l0 7) fun _ =>
  gB2 (f_X3_diggable κ F l0  s) fun v2 s1 =>
  gB1 (gck s1 l0 7) fun _ =>
  gB2 (f_X3_inState κ F l0 (κ.2 0) s1) fun v5 s4 =>
  if (v2 + v5) < (t0 + t1) then
    f_X3_canRemove_111 κ F  (0 : Int32) s4
  else
    f_X3_canRemove_111 κ F  (1 : Int32) s4
set_option maxHeartbeats 4000000 in
theorem w_X3_canRemove_86 {E : gE} {F z0 n0 : Nat} {r : Int32} {s' : gS}   : ∀ (l0 : Option Nat) (t0 : Int32) (t1 : Int32) (s : gS), f_X3_canRemove_86 (gk E) F  l0 t0 t1 s = some (r, s') → W_X3_canRemove E z0 n0 r s' 86 [(0, vR l0)] [vI t1, vI t0] s := by
  intro l0 t0 t1 s hB
  unfold f_X3_canRemove_86 at hB
  refine gw_iadd dX3_canRemove_86 ?_
  refine gw_istore (L' := [(5, vI (t0 + t1)), (0, vR l0)]) (Nat.le_of_ble_eq_true rfl) rfl dX3_canRemove_87 ?_
  refine gw_iload 0 rfl dX3_canRemove_89 ?_
  refine gw_aload_n 1 rfl dX3_canRemove_91 ?_
  obtain ⟨u0, hu3, hB⟩ := gB1_some hB
  obtain ⟨v2, s1, hv2, hB⟩ := gB2_some hB
  refine gw_callV (y := yX3_diggable) (lw_V q2092 q2093 q2094 q110 q2095) hdV_X3_diggable gcl7 hu3 (As := []) (rest := [vI (t0 + t1)]) (m_X3_diggable _ _ _ _ hv2) (Nat.le_of_ble_eq_true rfl) (Nat.le_of_ble_eq_true rfl) rfl (Nat.le_of_ble_eq_true rfl) dX3_canRemove_92 (gCont_i ?_)
  refine gw_aload_n 1 rfl dX3_canRemove_95 ?_
  refine gw_gets (i := 0) (by decide) q279 dX3_canRemove_96 ?_
  obtain ⟨u0, hu6, hB⟩ := gB1_some hB
  obtain ⟨v5, s4, hv5, hB⟩ := gB2_some hB
  refine gw_callV (y := yX3_inState) (lw_V q2096 q2097 q2098 q110 q2099) hdV_X3_inState gcl7 hu6 (As := [vR ((gk E).2 0)]) (rest := [vI v2, vI (t0 + t1)]) (m_X3_inState _ _ _ _ _ hv5) (Nat.le_of_ble_eq_true rfl) (Nat.le_of_ble_eq_true rfl) rfl (Nat.le_of_ble_eq_true rfl) dX3_canRemove_99 (gCont_i ?_)
  refine gw_iadd dX3_canRemove_102 ?_
  refine gw_icmp_gt (tgt := 110) dX3_canRemove_103 (by decide) (fun hcnd => ?_) (fun hcnd => ?_)
  · rw [if_pos hcnd] at hB
    refine gw_iconst (v := (0 : Int32)) (by decide) dX3_canRemove_110 ?_
    exact gw_sub [] rfl (w_X3_canRemove_111  _ _ hB)
  · rw [if_neg hcnd] at hB
    refine gw_iconst (v := (1 : Int32)) (by decide) dX3_canRemove_106 ?_
    refine gw_goto (tgt := 111) dX3_canRemove_107 (by decide) ?_
    exact gw_sub [] rfl (w_X3_canRemove_111  _ _ hB)
noncomputable def f_X3_canRemove_76 (κ : gK) (F : Nat)  (l0 : Option Nat) (l4 : Int32) (t0 : Int32) (s : gS) : Option (Int32 × gS) :=
  if l4 = 0 then
    f_X3_canRemove_86 κ F  l0 t0 (0 : Int32) s
  else
    f_X3_canRemove_86 κ F  l0 t0 (1 : Int32) s
set_option maxHeartbeats 4000000 in
theorem w_X3_canRemove_76 {E : gE} {F z0 n0 : Nat} {r : Int32} {s' : gS}   : ∀ (l0 : Option Nat) (l4 : Int32) (t0 : Int32) (s : gS), f_X3_canRemove_76 (gk E) F  l0 l4 t0 s = some (r, s') → W_X3_canRemove E z0 n0 r s' 76 [(0, vR l0), (4, vI l4)] [vI t0] s := by
  intro l0 l4 t0 s hB
  unfold f_X3_canRemove_76 at hB
  refine gw_iload 1 rfl dX3_canRemove_76 ?_
  refine gw_if_eq (tgt := 85) dX3_canRemove_78 (by decide) (fun hcnd => ?_) (fun hcnd => ?_)
  · rw [if_pos hcnd] at hB
    refine gw_iconst (v := (0 : Int32)) (by decide) dX3_canRemove_85 ?_
    exact gw_sub [0] rfl (w_X3_canRemove_86  _ _ _ _ hB)
  · rw [if_neg hcnd] at hB
    refine gw_iconst (v := (1 : Int32)) (by decide) dX3_canRemove_81 ?_
    refine gw_goto (tgt := 86) dX3_canRemove_82 (by decide) ?_
    exact gw_sub [0] rfl (w_X3_canRemove_86  _ _ _ _ hB)
noncomputable def f_X3_canRemove_52 (κ : gK) (F : Nat)  (l0 : Option Nat) (t0 : Int32) (s : gS) : Option (Int32 × gS) :=
  gB1 (gfR s l0 7 6) fun v1 =>
  gB1 (gfR s l0 7 6) fun v2 =>
  gB1 (gfI s v2 6 2) fun v3 =>
  gB1 (gck s v1 6) fun _ =>
  gB2 (f_X7_isNew κ F v1 v3 s) fun v5 s4 =>
  if v5 = 0 then
    f_X3_canRemove_76 κ F  l0 t0 (1 : Int32) s4
  else
    f_X3_canRemove_76 κ F  l0 t0 (0 : Int32) s4
set_option maxHeartbeats 4000000 in
theorem w_X3_canRemove_52 {E : gE} {F z0 n0 : Nat} {r : Int32} {s' : gS}   : ∀ (l0 : Option Nat) (t0 : Int32) (s : gS), f_X3_canRemove_52 (gk E) F  l0 t0 s = some (r, s') → W_X3_canRemove E z0 n0 r s' 52 [(0, vR l0)] [vI t0] s := by
  intro l0 t0 s hB
  unfold f_X3_canRemove_52 at hB
  refine gw_istore (L' := [(4, vI t0), (0, vR l0)]) (Nat.le_of_ble_eq_true rfl) rfl dX3_canRemove_52 ?_
  refine gw_aload_n 1 rfl dX3_canRemove_54 ?_
  obtain ⟨v1, hv1, hB⟩ := gB1_some hB
  refine gw_getf (C := RX3) (T := TX3) (N := 9) (k := 6) gcl7 (by decide) in_X3 q289 (gfR_spec hv1) dX3_canRemove_55 ?_
  refine gw_aload_n 1 rfl dX3_canRemove_58 ?_
  obtain ⟨v2, hv2, hB⟩ := gB1_some hB
  refine gw_getf (C := RX3) (T := TX3) (N := 9) (k := 6) gcl7 (by decide) in_X3 q289 (gfR_spec hv2) dX3_canRemove_59 ?_
  obtain ⟨v3, hv3, hB⟩ := gB1_some hB
  refine gw_getfN (C := RX7) (T := TX7) (N := 3) (k := 2) gcl6 (by decide) in_X7 q1791 (gfI_spec hv3) dX3_canRemove_62 ?_
  obtain ⟨u0, hu6, hB⟩ := gB1_some hB
  obtain ⟨v5, s4, hv5, hB⟩ := gB2_some hB
  refine gw_callV (y := yX7_isNew) (lw_V q2075 q2076 q2077 q144 q2078) hdV_X7_isNew gcl6 hu6 (As := [vI v3]) (rest := []) (m_X7_isNew _ _ _ _ _ hv5) (Nat.le_of_ble_eq_true rfl) (Nat.le_of_ble_eq_true rfl) rfl (Nat.le_of_ble_eq_true rfl) dX3_canRemove_65 (gCont_i ?_)
  refine gw_if_eq (tgt := 75) dX3_canRemove_68 (by decide) (fun hcnd => ?_) (fun hcnd => ?_)
  · rw [if_pos hcnd] at hB
    refine gw_iconst (v := (1 : Int32)) (by decide) dX3_canRemove_75 ?_
    exact gw_sub [1, 0] rfl (w_X3_canRemove_76  _ _ _ _ hB)
  · rw [if_neg hcnd] at hB
    refine gw_iconst (v := (0 : Int32)) (by decide) dX3_canRemove_71 ?_
    refine gw_goto (tgt := 76) dX3_canRemove_72 (by decide) ?_
    exact gw_sub [1, 0] rfl (w_X3_canRemove_76  _ _ _ _ hB)
noncomputable def f_X3_canRemove_51 (κ : gK) (F : Nat)  (l0 : Option Nat) (s : gS) : Option (Int32 × gS) :=
  f_X3_canRemove_52 κ F  l0 (0 : Int32) s
set_option maxHeartbeats 4000000 in
theorem w_X3_canRemove_51 {E : gE} {F z0 n0 : Nat} {r : Int32} {s' : gS}   : ∀ (l0 : Option Nat)  (s : gS), f_X3_canRemove_51 (gk E) F  l0 s = some (r, s') → W_X3_canRemove E z0 n0 r s' 51 [(0, vR l0)] [] s := by
  intro l0 s hB
  unfold f_X3_canRemove_51 at hB
  refine gw_iconst (v := (0 : Int32)) (by decide) dX3_canRemove_51 ?_
  exact gw_sub [0] rfl (w_X3_canRemove_52  _ _ _ hB)
noncomputable def f_X3_canRemove_0 (κ : gK) (F : Nat)  (l0 : Option Nat) (l1 : Int32) (s : gS) : Option (Int32 × gS) :=
  gB1 (gfR s l0 7 6) fun v1 =>
  gB1 (gfI s v1 6 2) fun v2 =>
  gB1 (gck s l0 7) fun _ =>
  gB2 (f_X3_directory κ F l0 v2 s) fun v4 s3 =>
  gB1 (gfR s3 v4 3 0) fun v6 =>
  gB1 (gck s3 l0 7) fun _ =>
  gB2 (f_X3_placeOf κ F l0 v4 l1 s3) fun v8 s7 =>
  gB1 (gaI s7 v6 0 v8) fun v10 =>
  gB1 (gfR s7 l0 7 6) fun v11 =>
  gB1 (gck s7 v11 6) fun _ =>
  gB2 (f_X7_isNew κ F v11 v10 s7) fun v13 s12 =>
  if v13 = 0 then
    gB1 (gck s12 l0 7) fun _ =>
    gB2 (f_X3_leaf κ F l0 v10 s12) fun v16 s15 =>
    gB1 (gck s15 v16 2) fun _ =>
    gB2 (f_X9_size κ F v16  s15) fun v19 s18 =>
    if v19 ≤ (1 : Int32) then
      f_X3_canRemove_51 κ F  l0 s18
    else
      f_X3_canRemove_52 κ F  l0 (1 : Int32) s18
  else
    f_X3_canRemove_51 κ F  l0 s12
set_option maxHeartbeats 4000000 in
theorem w_X3_canRemove_0 {E : gE} {F z0 n0 : Nat} {r : Int32} {s' : gS}   : ∀ (l0 : Option Nat) (l1 : Int32)  (s : gS), f_X3_canRemove_0 (gk E) F  l0 l1 s = some (r, s') → W_X3_canRemove E z0 n0 r s' 0 [(0, vR l0), (1, vI l1)] [] s := by
  intro l0 l1 s hB
  unfold f_X3_canRemove_0 at hB
  refine gw_aload_n 0 rfl dX3_canRemove_0 ?_
  refine gw_aload_n 0 rfl dX3_canRemove_1 ?_
  obtain ⟨v1, hv1, hB⟩ := gB1_some hB
  refine gw_getf (C := RX3) (T := TX3) (N := 9) (k := 6) gcl7 (by decide) in_X3 q289 (gfR_spec hv1) dX3_canRemove_2 ?_
  obtain ⟨v2, hv2, hB⟩ := gB1_some hB
  refine gw_getfN (C := RX7) (T := TX7) (N := 3) (k := 2) gcl6 (by decide) in_X7 q1791 (gfI_spec hv2) dX3_canRemove_5 ?_
  obtain ⟨u0, hu5, hB⟩ := gB1_some hB
  obtain ⟨v4, s3, hv4, hB⟩ := gB2_some hB
  refine gw_callV (y := yX3_directory) (lw_V q2041 q2043 qs23 q110 q2044) hdV_X3_directory gcl7 hu5 (As := [vI v2]) (rest := []) (m_X3_directory _ _ _ _ _ hv4) (Nat.le_of_ble_eq_true rfl) (Nat.le_of_ble_eq_true rfl) rfl (Nat.le_of_ble_eq_true rfl) dX3_canRemove_8 (gCont_i ?_)
  refine gw_astore_n (L' := [(2, vR v4), (0, vR l0), (1, vI l1)]) (Nat.le_of_ble_eq_true rfl) rfl dX3_canRemove_11 ?_
  refine gw_aload_n 0 rfl dX3_canRemove_12 ?_
  obtain ⟨v6, hv6, hB⟩ := gB1_some hB
  refine gw_getfN (C := RX5) (T := TX5) (N := 1) (k := 0) gcl3 (by decide) in_X5 q321 (gfR_spec hv6) dX3_canRemove_13 ?_
  refine gw_aload_n 1 rfl dX3_canRemove_16 ?_
  refine gw_aload_n 0 rfl dX3_canRemove_17 ?_
  refine gw_iload_n 2 rfl dX3_canRemove_18 ?_
  obtain ⟨u0, hu9, hB⟩ := gB1_some hB
  obtain ⟨v8, s7, hv8, hB⟩ := gB2_some hB
  refine gw_callV (y := yX3_placeOf) (lw_V q2053 q2055 qs25 q110 q2056) hdV_X3_placeOf gcl7 hu9 (As := [vR v4, vI l1]) (rest := [vR v6]) (m_X3_placeOf _ _ _ _ _ _ hv8) (Nat.le_of_ble_eq_true rfl) (Nat.le_of_ble_eq_true rfl) rfl (Nat.le_of_ble_eq_true rfl) dX3_canRemove_19 (gCont_i ?_)
  obtain ⟨v10, hv10, hB⟩ := gB1_some hB
  refine gw_iaload hv10 dX3_canRemove_22 ?_
  refine gw_istore_n (L' := [(3, vI v10), (2, vR v4), (0, vR l0), (1, vI l1)]) (Nat.le_of_ble_eq_true rfl) rfl dX3_canRemove_23 ?_
  refine gw_aload_n 2 rfl dX3_canRemove_24 ?_
  obtain ⟨v11, hv11, hB⟩ := gB1_some hB
  refine gw_getf (C := RX3) (T := TX3) (N := 9) (k := 6) gcl7 (by decide) in_X3 q289 (gfR_spec hv11) dX3_canRemove_25 ?_
  refine gw_iload_n 0 rfl dX3_canRemove_28 ?_
  obtain ⟨u0, hu14, hB⟩ := gB1_some hB
  obtain ⟨v13, s12, hv13, hB⟩ := gB2_some hB
  refine gw_callV (y := yX7_isNew) (lw_V q2075 q2076 q2077 q144 q2078) hdV_X7_isNew gcl6 hu14 (As := [vI v10]) (rest := []) (m_X7_isNew _ _ _ _ _ hv13) (Nat.le_of_ble_eq_true rfl) (Nat.le_of_ble_eq_true rfl) rfl (Nat.le_of_ble_eq_true rfl) dX3_canRemove_29 (gCont_i ?_)
  refine gw_if_ne (tgt := 51) dX3_canRemove_32 (by decide) (fun hcnd => ?_) (fun hcnd => ?_)
  · rw [if_neg hcnd] at hB
    exact gw_sub [2] rfl (w_X3_canRemove_51  _ _ hB)
  · rw [if_pos hcnd] at hB
    refine gw_aload_n 2 rfl dX3_canRemove_35 ?_
    refine gw_iload_n 0 rfl dX3_canRemove_36 ?_
    obtain ⟨u0, hu17, hB⟩ := gB1_some hB
    obtain ⟨v16, s15, hv16, hB⟩ := gB2_some hB
    refine gw_callV (y := yX3_leaf) (lw_V q2057 q2059 qs26 q110 q2060) hdV_X3_leaf gcl7 hu17 (As := [vI v10]) (rest := []) (m_X3_leaf _ _ _ _ _ hv16) (Nat.le_of_ble_eq_true rfl) (Nat.le_of_ble_eq_true rfl) rfl (Nat.le_of_ble_eq_true rfl) dX3_canRemove_37 (gCont_i ?_)
    obtain ⟨u0, hu20, hB⟩ := gB1_some hB
    obtain ⟨v19, s18, hv19, hB⟩ := gB2_some hB
    refine gw_callV (y := yX9_size) (lw_V q2071 q2072 q2073 q160 q2074) hdV_X9_size gcl2 hu20 (As := []) (rest := []) (m_X9_size _ _ _ _ hv19) (Nat.le_of_ble_eq_true rfl) (Nat.le_of_ble_eq_true rfl) rfl (Nat.le_of_ble_eq_true rfl) dX3_canRemove_40 (gCont_i ?_)
    refine gw_iconst (v := (1 : Int32)) (by decide) dX3_canRemove_43 ?_
    refine gw_icmp_le (tgt := 51) dX3_canRemove_44 (by decide) (fun hcnd => ?_) (fun hcnd => ?_)
    · rw [if_pos hcnd] at hB
      exact gw_sub [2] rfl (w_X3_canRemove_51  _ _ hB)
    · rw [if_neg hcnd] at hB
      refine gw_iconst (v := (1 : Int32)) (by decide) dX3_canRemove_47 ?_
      refine gw_goto (tgt := 52) dX3_canRemove_48 (by decide) ?_
      exact gw_sub [2] rfl (w_X3_canRemove_52  _ _ _ hB)
noncomputable def f_X3_canRemove (κ : gK) (F : Nat) (a0 : Option Nat) (a1 : Int32) (s : gS) : Option (Int32 × gS) := f_X3_canRemove_0 κ F a0 a1 s
theorem m_X3_canRemove {E : gE} {F : Nat} (a0 : Option Nat) (a1 : Int32) (s : gS) (r : Int32) (s' : gS) (h : f_X3_canRemove (gk E) F a0 a1 s = some (r, s')) : gCT E 8 yX3_canRemove (ws_ yX3_canRemove cX3_canRemove 6 (some FieldType.boolean)) [vR a0, vI a1] s (.inl (some (vI r))) s' := by
  refine gCT_of2 (fun h => absurd h (by decide)) (plainFor_of_name (by decide)) (Nat.le_of_ble_eq_true rfl) ?_
  exact gw_sub [0, 1] rfl (w_X3_canRemove_0 _ _ _ h)
def dkwX3_lay_0 : List UInt8 := [42, 180, 0, 12, 42, 180, 0, 30, 27, 50, 44, 182, 0, 68, 192, 0, 72, 78, 177]
abbrev dktX3_lay_0 : List UInt8 := dkwX3_lay_0 ++ []
theorem dksX3_lay_0 : cX3_lay.data.toList.drop 0 = dktX3_lay_0 := by decide +kernel
theorem dX3_lay_0 : decode cX3_lay 0 = .ok (.aload_n 0, 1) := dk_42 (dk_at dksX3_lay_0 0 rfl rfl)
theorem dX3_lay_1 : decode cX3_lay 1 = .ok (.getfield 12, 3) := dk_180 0 12 (dk_at dksX3_lay_0 1 rfl rfl)
theorem dX3_lay_4 : decode cX3_lay 4 = .ok (.aload_n 0, 1) := dk_42 (dk_at dksX3_lay_0 4 rfl rfl)
theorem dX3_lay_5 : decode cX3_lay 5 = .ok (.getfield 30, 3) := dk_180 0 30 (dk_at dksX3_lay_0 5 rfl rfl)
theorem dX3_lay_8 : decode cX3_lay 8 = .ok (.iload_n 1, 1) := dk_27 (dk_at dksX3_lay_0 8 rfl rfl)
theorem dX3_lay_9 : decode cX3_lay 9 = .ok (.aaload, 1) := dk_50 (dk_at dksX3_lay_0 9 rfl rfl)
theorem dX3_lay_10 : decode cX3_lay 10 = .ok (.aload_n 2, 1) := dk_44 (dk_at dksX3_lay_0 10 rfl rfl)
theorem dX3_lay_11 : decode cX3_lay 11 = .ok (.invokevirtual 68, 3) := dk_182 0 68 (dk_at dksX3_lay_0 11 rfl rfl)
theorem dX3_lay_14 : decode cX3_lay 14 = .ok (.checkcast 72, 3) := dk_192 0 72 (dk_at dksX3_lay_0 14 rfl rfl)
theorem dX3_lay_17 : decode cX3_lay 17 = .ok (.astore_n 3, 1) := dk_78 (dk_at dksX3_lay_0 17 rfl rfl)
theorem dX3_lay_18 : decode cX3_lay 18 = .ok (.return_, 1) := dk_177 (dk_at dksX3_lay_0 18 rfl rfl)
/-! PageGarden$Garden.lay(ILPageGarden$Page;)V -/
abbrev M_X3_lay (z0 n0 : Nat) (s' : gS) : gM := (RX3, cX3_lay, 4, none, "lay", [], 6, z0, n0, s'.2.1, s'.2.2)
abbrev W_X3_lay (E : gE) (z0 n0 : Nat) (r : Unit) (s' : gS) (pc : Nat) (L : List (Nat × gV)) (st : List gV) (s : gS) : Prop := gW E (M_X3_lay z0 n0 s') (gQm E (M_X3_lay z0 n0 s') (.inl none) s') pc L st s
noncomputable def f_X3_lay_0 (κ : gK) (F : Nat)  (l0 : Option Nat) (l1 : Int32) (l2 : Option Nat) (s : gS) : Option (Unit × gS) :=
  gB1 (gfR s l0 7 0) fun v1 =>
  gB1 (gfR s l0 7 2) fun v2 =>
  gB1 (gaR s v2 l1) fun v3 =>
  gB1 (gck s v1 10) fun _ =>
  gB2 (f_J1_put κ F v1 v3 l2 s) fun v5 s4 =>
  gB1 (gcm s4 v5 [2, 3]) fun _ =>
  some ((), s4)
set_option maxHeartbeats 4000000 in
theorem w_X3_lay_0 {E : gE} {F z0 n0 : Nat} {r : Unit} {s' : gS}   : ∀ (l0 : Option Nat) (l1 : Int32) (l2 : Option Nat)  (s : gS), f_X3_lay_0 (gk E) F  l0 l1 l2 s = some (r, s') → W_X3_lay E z0 n0 r s' 0 [(0, vR l0), (1, vI l1), (2, vR l2)] [] s := by
  intro l0 l1 l2 s hB
  unfold f_X3_lay_0 at hB
  refine gw_aload_n 0 rfl dX3_lay_0 ?_
  obtain ⟨v1, hv1, hB⟩ := gB1_some hB
  refine gw_getf (C := RX3) (T := TX3) (N := 9) (k := 0) gcl7 (by decide) in_X3 q281 (gfR_spec hv1) dX3_lay_1 ?_
  refine gw_aload_n 0 rfl dX3_lay_4 ?_
  obtain ⟨v2, hv2, hB⟩ := gB1_some hB
  refine gw_getf (C := RX3) (T := TX3) (N := 9) (k := 2) gcl7 (by decide) in_X3 q284 (gfR_spec hv2) dX3_lay_5 ?_
  refine gw_iload_n 1 rfl dX3_lay_8 ?_
  obtain ⟨v3, hv3, hB⟩ := gB1_some hB
  refine gw_aaload hv3 dX3_lay_9 ?_
  refine gw_aload_n 2 rfl dX3_lay_10 ?_
  obtain ⟨u0, hu6, hB⟩ := gB1_some hB
  obtain ⟨v5, s4, hv5, hB⟩ := gB2_some hB
  refine gw_callU (C := "java/util/LinkedHashMap") (owner := "java/util/HashMap") (x := ⟨"java/util/LinkedHashMap", "put", "(Ljava/lang/Object;Ljava/lang/Object;)Ljava/lang/Object;"⟩) (y := yJ1_put) (lw_app (lw_in (([Cond.methodLink "PageGarden$Garden" 68 ⟨"java/util/LinkedHashMap", "put", "(Ljava/lang/Object;Ljava/lang/Object;)Ljava/lang/Object;"⟩, Cond.sameMethod "java/util/LinkedHashMap" "java/util/HashMap" "put" "(Ljava/lang/Object;Ljava/lang/Object;)Ljava/lang/Object;", Cond.selects "java/util/LinkedHashMap" ⟨"java/util/LinkedHashMap", "put", "(Ljava/lang/Object;Ljava/lang/Object;)Ljava/lang/Object;"⟩ yJ1_put, Cond.instanceMethod yJ1_put, Cond.initialized "java/util/HashMap"] : List Cond)) [329, 330, 332, 333, 113] (by decide +kernel) (by decide +kernel)) (lw_meth q334)) rfl (show _ ∧ _ ∧ _ = some 2 from by decide +kernel) gcl10 hu6 (As := [vR v3, vR l2]) (rest := []) (m_J1_put _ _ _ _ _ _ hv5) (Nat.le_of_ble_eq_true rfl) (Nat.le_of_ble_eq_true rfl) rfl (Nat.le_of_ble_eq_true rfl) dX3_lay_11 (gCont_i ?_)
  obtain ⟨u0, hu7, hB⟩ := gB1_some hB
  refine gw_castM (cs := [2, 3]) gcm_PageGarden_Page hu7 q1244 dX3_lay_14 ?_
  refine gw_astore_n (L' := [(3, vR v5), (0, vR l0), (1, vI l1), (2, vR l2)]) (Nat.le_of_ble_eq_true rfl) rfl dX3_lay_17 ?_
  obtain ⟨rfl, rfl⟩ := Prod.mk.inj (Option.some.inj hB)
  exact gw_vret rfl rfl rfl dX3_lay_18
noncomputable def f_X3_lay (κ : gK) (F : Nat) (a0 : Option Nat) (a1 : Int32) (a2 : Option Nat) (s : gS) : Option (Unit × gS) := f_X3_lay_0 κ F a0 a1 a2 s
theorem m_X3_lay {E : gE} {F : Nat} (a0 : Option Nat) (a1 : Int32) (a2 : Option Nat) (s : gS) (r : Unit) (s' : gS) (h : f_X3_lay (gk E) F a0 a1 a2 s = some (r, s')) : gCT E 6 yX3_lay (ws_ yX3_lay cX3_lay 4 none) [vR a0, vI a1, vR a2] s (.inl none) s' := by
  refine gCT_of2 (fun h => absurd h (by decide)) (plainFor_of_name (by decide)) (Nat.le_of_ble_eq_true rfl) ?_
  exact gw_sub [0, 1, 2] rfl (w_X3_lay_0 _ _ _ _ h)
def dkwX3_nextBed_4 : List UInt8 := [132, 4, 255, 167, 255, 176, 28, 17, 252, 24, 160, 0, 7, 29, 167, 0, 4, 28, 172]
abbrev dktX3_nextBed_4 : List UInt8 := dkwX3_nextBed_4 ++ []
def dkwX3_nextBed_3 : List UInt8 := [28, 46, 163, 0, 7, 4, 167, 0, 4, 3, 54, 5, 21, 5, 153, 0, 8, 21, 4, 167, 0, 4, 28, 61]
abbrev dktX3_nextBed_3 : List UInt8 := dkwX3_nextBed_3 ++ dktX3_nextBed_4
def dkwX3_nextBed_2 : List UInt8 := [182, 0, 174, 153, 0, 30, 28, 17, 252, 24, 159, 0, 19, 42, 180, 0, 34, 21, 4, 46, 42, 180, 0, 34]
abbrev dktX3_nextBed_2 : List UInt8 := dkwX3_nextBed_2 ++ dktX3_nextBed_3
def dkwX3_nextBed_1 : List UInt8 := [180, 0, 20, 21, 4, 50, 178, 0, 42, 166, 0, 8, 21, 4, 167, 0, 4, 29, 62, 42, 21, 4, 27]
abbrev dktX3_nextBed_1 : List UInt8 := dkwX3_nextBed_1 ++ dktX3_nextBed_2
def dkwX3_nextBed_0 : List UInt8 := [42, 182, 0, 171, 60, 17, 252, 24, 61, 17, 252, 24, 62, 16, 31, 54, 4, 21, 4, 155, 0, 81, 42]
abbrev dktX3_nextBed_0 : List UInt8 := dkwX3_nextBed_0 ++ dktX3_nextBed_1
theorem dksX3_nextBed_0 : cX3_nextBed.data.toList.drop 0 = dktX3_nextBed_0 := by decide +kernel
theorem dksX3_nextBed_1 : cX3_nextBed.data.toList.drop 23 = dktX3_nextBed_1 := dk_seg dksX3_nextBed_0 23 rfl rfl
theorem dksX3_nextBed_2 : cX3_nextBed.data.toList.drop 46 = dktX3_nextBed_2 := dk_seg dksX3_nextBed_1 23 rfl rfl
theorem dksX3_nextBed_3 : cX3_nextBed.data.toList.drop 70 = dktX3_nextBed_3 := dk_seg dksX3_nextBed_2 24 rfl rfl
theorem dksX3_nextBed_4 : cX3_nextBed.data.toList.drop 94 = dktX3_nextBed_4 := dk_seg dksX3_nextBed_3 24 rfl rfl
theorem dX3_nextBed_0 : decode cX3_nextBed 0 = .ok (.aload_n 0, 1) := dk_42 (dk_at dksX3_nextBed_0 0 rfl rfl)
theorem dX3_nextBed_1 : decode cX3_nextBed 1 = .ok (.invokevirtual 171, 3) := dk_182 0 171 (dk_at dksX3_nextBed_0 1 rfl rfl)
theorem dX3_nextBed_4 : decode cX3_nextBed 4 = .ok (.istore_n 1, 1) := dk_60 (dk_at dksX3_nextBed_0 4 rfl rfl)
theorem dX3_nextBed_5 : decode cX3_nextBed 5 = .ok (.sipush (-1000), 3) := dk_17 252 24 (dk_at dksX3_nextBed_0 5 rfl rfl)
theorem dX3_nextBed_8 : decode cX3_nextBed 8 = .ok (.istore_n 2, 1) := dk_61 (dk_at dksX3_nextBed_0 8 rfl rfl)
theorem dX3_nextBed_9 : decode cX3_nextBed 9 = .ok (.sipush (-1000), 3) := dk_17 252 24 (dk_at dksX3_nextBed_0 9 rfl rfl)
theorem dX3_nextBed_12 : decode cX3_nextBed 12 = .ok (.istore_n 3, 1) := dk_62 (dk_at dksX3_nextBed_0 12 rfl rfl)
theorem dX3_nextBed_13 : decode cX3_nextBed 13 = .ok (.bipush 31, 2) := dk_16 31 (dk_at dksX3_nextBed_0 13 rfl rfl)
theorem dX3_nextBed_15 : decode cX3_nextBed 15 = .ok (.istore 4, 2) := dk_54 4 (dk_at dksX3_nextBed_0 15 rfl rfl)
theorem dX3_nextBed_17 : decode cX3_nextBed 17 = .ok (.iload 4, 2) := dk_21 4 (dk_at dksX3_nextBed_0 17 rfl rfl)
theorem dX3_nextBed_19 : decode cX3_nextBed 19 = .ok (.ifCond .lt 81, 3) := dk_155 0 81 (dk_at dksX3_nextBed_0 19 rfl rfl)
theorem dX3_nextBed_22 : decode cX3_nextBed 22 = .ok (.aload_n 0, 1) := dk_42 (dk_at dksX3_nextBed_0 22 rfl rfl)
theorem dX3_nextBed_23 : decode cX3_nextBed 23 = .ok (.getfield 20, 3) := dk_180 0 20 (dk_at dksX3_nextBed_1 0 rfl rfl)
theorem dX3_nextBed_26 : decode cX3_nextBed 26 = .ok (.iload 4, 2) := dk_21 4 (dk_at dksX3_nextBed_1 3 rfl rfl)
theorem dX3_nextBed_28 : decode cX3_nextBed 28 = .ok (.aaload, 1) := dk_50 (dk_at dksX3_nextBed_1 5 rfl rfl)
theorem dX3_nextBed_29 : decode cX3_nextBed 29 = .ok (.getstatic 42, 3) := dk_178 0 42 (dk_at dksX3_nextBed_1 6 rfl rfl)
theorem dX3_nextBed_32 : decode cX3_nextBed 32 = .ok (.if_acmp .ne 8, 3) := dk_166 0 8 (dk_at dksX3_nextBed_1 9 rfl rfl)
theorem dX3_nextBed_35 : decode cX3_nextBed 35 = .ok (.iload 4, 2) := dk_21 4 (dk_at dksX3_nextBed_1 12 rfl rfl)
theorem dX3_nextBed_37 : decode cX3_nextBed 37 = .ok (.goto 4, 3) := dk_167 0 4 (dk_at dksX3_nextBed_1 14 rfl rfl)
theorem dX3_nextBed_40 : decode cX3_nextBed 40 = .ok (.iload_n 3, 1) := dk_29 (dk_at dksX3_nextBed_1 17 rfl rfl)
theorem dX3_nextBed_41 : decode cX3_nextBed 41 = .ok (.istore_n 3, 1) := dk_62 (dk_at dksX3_nextBed_1 18 rfl rfl)
theorem dX3_nextBed_42 : decode cX3_nextBed 42 = .ok (.aload_n 0, 1) := dk_42 (dk_at dksX3_nextBed_1 19 rfl rfl)
theorem dX3_nextBed_43 : decode cX3_nextBed 43 = .ok (.iload 4, 2) := dk_21 4 (dk_at dksX3_nextBed_1 20 rfl rfl)
theorem dX3_nextBed_45 : decode cX3_nextBed 45 = .ok (.iload_n 1, 1) := dk_27 (dk_at dksX3_nextBed_1 22 rfl rfl)
theorem dX3_nextBed_46 : decode cX3_nextBed 46 = .ok (.invokevirtual 174, 3) := dk_182 0 174 (dk_at dksX3_nextBed_2 0 rfl rfl)
theorem dX3_nextBed_49 : decode cX3_nextBed 49 = .ok (.ifCond .eq 30, 3) := dk_153 0 30 (dk_at dksX3_nextBed_2 3 rfl rfl)
theorem dX3_nextBed_52 : decode cX3_nextBed 52 = .ok (.iload_n 2, 1) := dk_28 (dk_at dksX3_nextBed_2 6 rfl rfl)
theorem dX3_nextBed_53 : decode cX3_nextBed 53 = .ok (.sipush (-1000), 3) := dk_17 252 24 (dk_at dksX3_nextBed_2 7 rfl rfl)
theorem dX3_nextBed_56 : decode cX3_nextBed 56 = .ok (.if_icmp .eq 19, 3) := dk_159 0 19 (dk_at dksX3_nextBed_2 10 rfl rfl)
theorem dX3_nextBed_59 : decode cX3_nextBed 59 = .ok (.aload_n 0, 1) := dk_42 (dk_at dksX3_nextBed_2 13 rfl rfl)
theorem dX3_nextBed_60 : decode cX3_nextBed 60 = .ok (.getfield 34, 3) := dk_180 0 34 (dk_at dksX3_nextBed_2 14 rfl rfl)
theorem dX3_nextBed_63 : decode cX3_nextBed 63 = .ok (.iload 4, 2) := dk_21 4 (dk_at dksX3_nextBed_2 17 rfl rfl)
theorem dX3_nextBed_65 : decode cX3_nextBed 65 = .ok (.iaload, 1) := dk_46 (dk_at dksX3_nextBed_2 19 rfl rfl)
theorem dX3_nextBed_66 : decode cX3_nextBed 66 = .ok (.aload_n 0, 1) := dk_42 (dk_at dksX3_nextBed_2 20 rfl rfl)
theorem dX3_nextBed_67 : decode cX3_nextBed 67 = .ok (.getfield 34, 3) := dk_180 0 34 (dk_at dksX3_nextBed_2 21 rfl rfl)
theorem dX3_nextBed_70 : decode cX3_nextBed 70 = .ok (.iload_n 2, 1) := dk_28 (dk_at dksX3_nextBed_3 0 rfl rfl)
theorem dX3_nextBed_71 : decode cX3_nextBed 71 = .ok (.iaload, 1) := dk_46 (dk_at dksX3_nextBed_3 1 rfl rfl)
theorem dX3_nextBed_72 : decode cX3_nextBed 72 = .ok (.if_icmp .gt 7, 3) := dk_163 0 7 (dk_at dksX3_nextBed_3 2 rfl rfl)
theorem dX3_nextBed_75 : decode cX3_nextBed 75 = .ok (.iconst 1, 1) := dk_4 (dk_at dksX3_nextBed_3 5 rfl rfl)
theorem dX3_nextBed_76 : decode cX3_nextBed 76 = .ok (.goto 4, 3) := dk_167 0 4 (dk_at dksX3_nextBed_3 6 rfl rfl)
theorem dX3_nextBed_79 : decode cX3_nextBed 79 = .ok (.iconst 0, 1) := dk_3 (dk_at dksX3_nextBed_3 9 rfl rfl)
theorem dX3_nextBed_80 : decode cX3_nextBed 80 = .ok (.istore 5, 2) := dk_54 5 (dk_at dksX3_nextBed_3 10 rfl rfl)
theorem dX3_nextBed_82 : decode cX3_nextBed 82 = .ok (.iload 5, 2) := dk_21 5 (dk_at dksX3_nextBed_3 12 rfl rfl)
theorem dX3_nextBed_84 : decode cX3_nextBed 84 = .ok (.ifCond .eq 8, 3) := dk_153 0 8 (dk_at dksX3_nextBed_3 14 rfl rfl)
theorem dX3_nextBed_87 : decode cX3_nextBed 87 = .ok (.iload 4, 2) := dk_21 4 (dk_at dksX3_nextBed_3 17 rfl rfl)
theorem dX3_nextBed_89 : decode cX3_nextBed 89 = .ok (.goto 4, 3) := dk_167 0 4 (dk_at dksX3_nextBed_3 19 rfl rfl)
theorem dX3_nextBed_92 : decode cX3_nextBed 92 = .ok (.iload_n 2, 1) := dk_28 (dk_at dksX3_nextBed_3 22 rfl rfl)
theorem dX3_nextBed_93 : decode cX3_nextBed 93 = .ok (.istore_n 2, 1) := dk_61 (dk_at dksX3_nextBed_3 23 rfl rfl)
theorem dX3_nextBed_94 : decode cX3_nextBed 94 = .ok (.iinc 4 (-1), 3) := dk_132 4 255 (dk_at dksX3_nextBed_4 0 rfl rfl)
theorem dX3_nextBed_97 : decode cX3_nextBed 97 = .ok (.goto (-80), 3) := dk_167 255 176 (dk_at dksX3_nextBed_4 3 rfl rfl)
theorem dX3_nextBed_100 : decode cX3_nextBed 100 = .ok (.iload_n 2, 1) := dk_28 (dk_at dksX3_nextBed_4 6 rfl rfl)
theorem dX3_nextBed_101 : decode cX3_nextBed 101 = .ok (.sipush (-1000), 3) := dk_17 252 24 (dk_at dksX3_nextBed_4 7 rfl rfl)
theorem dX3_nextBed_104 : decode cX3_nextBed 104 = .ok (.if_icmp .ne 7, 3) := dk_160 0 7 (dk_at dksX3_nextBed_4 10 rfl rfl)
theorem dX3_nextBed_107 : decode cX3_nextBed 107 = .ok (.iload_n 3, 1) := dk_29 (dk_at dksX3_nextBed_4 13 rfl rfl)
theorem dX3_nextBed_108 : decode cX3_nextBed 108 = .ok (.goto 4, 3) := dk_167 0 4 (dk_at dksX3_nextBed_4 14 rfl rfl)
theorem dX3_nextBed_111 : decode cX3_nextBed 111 = .ok (.iload_n 2, 1) := dk_28 (dk_at dksX3_nextBed_4 17 rfl rfl)
theorem dX3_nextBed_112 : decode cX3_nextBed 112 = .ok (.ireturn, 1) := dk_172 (dk_at dksX3_nextBed_4 18 rfl rfl)
/-! PageGarden$Garden.nextBed()I -/
abbrev M_X3_nextBed (z0 n0 : Nat) (s' : gS) : gM := (RX3, cX3_nextBed, 6, (some FieldType.int), "nextBed", [], 5, z0, n0, s'.2.1, s'.2.2)
abbrev W_X3_nextBed (E : gE) (z0 n0 : Nat) (r : Int32) (s' : gS) (pc : Nat) (L : List (Nat × gV)) (st : List gV) (s : gS) : Prop := gW E (M_X3_nextBed z0 n0 s') (gQm E (M_X3_nextBed z0 n0 s') (.inl (some (vI r))) s') pc L st s
noncomputable def f_X3_nextBed_93 (κ : gK) (F : Nat) (k17 : Option Nat → Int32 → Int32 → Int32 → Int32 → gS → Option (Int32 × gS)) (l0 : Option Nat) (l1 : Int32) (l3 : Int32) (l4 : Int32) (t0 : Int32) (s : gS) : Option (Int32 × gS) :=
  k17 l0 l1 t0 l3 (l4 + (-1 : Int32)) s
set_option maxHeartbeats 4000000 in
theorem w_X3_nextBed_93 {E : gE} {F z0 n0 : Nat} {r : Int32} {s' : gS} {k17 : Option Nat → Int32 → Int32 → Int32 → Int32 → gS → Option (Int32 × gS)} (hk17 : ∀ (l0 : Option Nat) (l1 : Int32) (l2 : Int32) (l3 : Int32) (l4 : Int32) (s : gS), k17 l0 l1 l2 l3 l4 s = some (r, s') → W_X3_nextBed E z0 n0 r s' 17 [(0, vR l0), (1, vI l1), (2, vI l2), (3, vI l3), (4, vI l4)] [] s) : ∀ (l0 : Option Nat) (l1 : Int32) (l3 : Int32) (l4 : Int32) (t0 : Int32) (s : gS), f_X3_nextBed_93 (gk E) F k17 l0 l1 l3 l4 t0 s = some (r, s') → W_X3_nextBed E z0 n0 r s' 93 [(0, vR l0), (1, vI l1), (3, vI l3), (4, vI l4)] [vI t0] s := by
  intro l0 l1 l3 l4 t0 s hB
  unfold f_X3_nextBed_93 at hB
  refine gw_istore_n (L' := [(2, vI t0), (0, vR l0), (1, vI l1), (3, vI l3), (4, vI l4)]) (Nat.le_of_ble_eq_true rfl) rfl dX3_nextBed_93 ?_
  refine gw_iinc (w := (-1 : Int32)) (L' := [(4, vI (l4 + (-1 : Int32))), (2, vI t0), (0, vR l0), (1, vI l1), (3, vI l3)]) 4 rfl (by decide) (Nat.le_of_ble_eq_true rfl) rfl dX3_nextBed_94 ?_
  refine gw_goto (tgt := 17) dX3_nextBed_97 (by decide) ?_
  exact gw_sub [2, 3, 1, 4, 0] rfl (hk17 _ _ _ _ _ _ hB)
noncomputable def f_X3_nextBed_80 (κ : gK) (F : Nat) (k17 : Option Nat → Int32 → Int32 → Int32 → Int32 → gS → Option (Int32 × gS)) (l0 : Option Nat) (l1 : Int32) (l2 : Int32) (l3 : Int32) (l4 : Int32) (t0 : Int32) (s : gS) : Option (Int32 × gS) :=
  if t0 = 0 then
    f_X3_nextBed_93 κ F k17 l0 l1 l3 l4 l2 s
  else
    f_X3_nextBed_93 κ F k17 l0 l1 l3 l4 l4 s
set_option maxHeartbeats 4000000 in
theorem w_X3_nextBed_80 {E : gE} {F z0 n0 : Nat} {r : Int32} {s' : gS} {k17 : Option Nat → Int32 → Int32 → Int32 → Int32 → gS → Option (Int32 × gS)} (hk17 : ∀ (l0 : Option Nat) (l1 : Int32) (l2 : Int32) (l3 : Int32) (l4 : Int32) (s : gS), k17 l0 l1 l2 l3 l4 s = some (r, s') → W_X3_nextBed E z0 n0 r s' 17 [(0, vR l0), (1, vI l1), (2, vI l2), (3, vI l3), (4, vI l4)] [] s) : ∀ (l0 : Option Nat) (l1 : Int32) (l2 : Int32) (l3 : Int32) (l4 : Int32) (t0 : Int32) (s : gS), f_X3_nextBed_80 (gk E) F k17 l0 l1 l2 l3 l4 t0 s = some (r, s') → W_X3_nextBed E z0 n0 r s' 80 [(0, vR l0), (1, vI l1), (2, vI l2), (3, vI l3), (4, vI l4)] [vI t0] s := by
  intro l0 l1 l2 l3 l4 t0 s hB
  unfold f_X3_nextBed_80 at hB
  refine gw_istore (L' := [(5, vI t0), (0, vR l0), (1, vI l1), (2, vI l2), (3, vI l3), (4, vI l4)]) (Nat.le_of_ble_eq_true rfl) rfl dX3_nextBed_80 ?_
  refine gw_iload 0 rfl dX3_nextBed_82 ?_
  refine gw_if_eq (tgt := 92) dX3_nextBed_84 (by decide) (fun hcnd => ?_) (fun hcnd => ?_)
  · rw [if_pos hcnd] at hB
    refine gw_iload_n 3 rfl dX3_nextBed_92 ?_
    exact gw_sub [1, 2, 4, 5] rfl (w_X3_nextBed_93 hk17 _ _ _ _ _ _ hB)
  · rw [if_neg hcnd] at hB
    refine gw_iload 5 rfl dX3_nextBed_87 ?_
    refine gw_goto (tgt := 93) dX3_nextBed_89 (by decide) ?_
    exact gw_sub [1, 2, 4, 5] rfl (w_X3_nextBed_93 hk17 _ _ _ _ _ _ hB)
noncomputable def f_X3_nextBed_75 (κ : gK) (F : Nat) (k17 : Option Nat → Int32 → Int32 → Int32 → Int32 → gS → Option (Int32 × gS)) (l0 : Option Nat) (l1 : Int32) (l2 : Int32) (l3 : Int32) (l4 : Int32) (s : gS) : Option (Int32 × gS) :=
  f_X3_nextBed_80 κ F k17 l0 l1 l2 l3 l4 (1 : Int32) s
set_option maxHeartbeats 4000000 in
theorem w_X3_nextBed_75 {E : gE} {F z0 n0 : Nat} {r : Int32} {s' : gS} {k17 : Option Nat → Int32 → Int32 → Int32 → Int32 → gS → Option (Int32 × gS)} (hk17 : ∀ (l0 : Option Nat) (l1 : Int32) (l2 : Int32) (l3 : Int32) (l4 : Int32) (s : gS), k17 l0 l1 l2 l3 l4 s = some (r, s') → W_X3_nextBed E z0 n0 r s' 17 [(0, vR l0), (1, vI l1), (2, vI l2), (3, vI l3), (4, vI l4)] [] s) : ∀ (l0 : Option Nat) (l1 : Int32) (l2 : Int32) (l3 : Int32) (l4 : Int32)  (s : gS), f_X3_nextBed_75 (gk E) F k17 l0 l1 l2 l3 l4 s = some (r, s') → W_X3_nextBed E z0 n0 r s' 75 [(0, vR l0), (1, vI l1), (2, vI l2), (3, vI l3), (4, vI l4)] [] s := by
  intro l0 l1 l2 l3 l4 s hB
  unfold f_X3_nextBed_75 at hB
  refine gw_iconst (v := (1 : Int32)) (by decide) dX3_nextBed_75 ?_
  refine gw_goto (tgt := 80) dX3_nextBed_76 (by decide) ?_
  exact gw_sub [0, 1, 2, 3, 4] rfl (w_X3_nextBed_80 hk17 _ _ _ _ _ _ _ hB)
noncomputable def f_X3_nextBed_79 (κ : gK) (F : Nat) (k17 : Option Nat → Int32 → Int32 → Int32 → Int32 → gS → Option (Int32 × gS)) (l0 : Option Nat) (l1 : Int32) (l2 : Int32) (l3 : Int32) (l4 : Int32) (s : gS) : Option (Int32 × gS) :=
  f_X3_nextBed_80 κ F k17 l0 l1 l2 l3 l4 (0 : Int32) s
set_option maxHeartbeats 4000000 in
theorem w_X3_nextBed_79 {E : gE} {F z0 n0 : Nat} {r : Int32} {s' : gS} {k17 : Option Nat → Int32 → Int32 → Int32 → Int32 → gS → Option (Int32 × gS)} (hk17 : ∀ (l0 : Option Nat) (l1 : Int32) (l2 : Int32) (l3 : Int32) (l4 : Int32) (s : gS), k17 l0 l1 l2 l3 l4 s = some (r, s') → W_X3_nextBed E z0 n0 r s' 17 [(0, vR l0), (1, vI l1), (2, vI l2), (3, vI l3), (4, vI l4)] [] s) : ∀ (l0 : Option Nat) (l1 : Int32) (l2 : Int32) (l3 : Int32) (l4 : Int32)  (s : gS), f_X3_nextBed_79 (gk E) F k17 l0 l1 l2 l3 l4 s = some (r, s') → W_X3_nextBed E z0 n0 r s' 79 [(0, vR l0), (1, vI l1), (2, vI l2), (3, vI l3), (4, vI l4)] [] s := by
  intro l0 l1 l2 l3 l4 s hB
  unfold f_X3_nextBed_79 at hB
  refine gw_iconst (v := (0 : Int32)) (by decide) dX3_nextBed_79 ?_
  exact gw_sub [0, 1, 2, 3, 4] rfl (w_X3_nextBed_80 hk17 _ _ _ _ _ _ _ hB)
noncomputable def f_X3_nextBed_41 (κ : gK) (F : Nat) (k17 : Option Nat → Int32 → Int32 → Int32 → Int32 → gS → Option (Int32 × gS)) (l0 : Option Nat) (l1 : Int32) (l2 : Int32) (l4 : Int32) (t0 : Int32) (s : gS) : Option (Int32 × gS) :=
  gB1 (gck s l0 7) fun _ =>
  gB2 (f_X3_canBeDug κ F l0 l4 l1 s) fun v2 s1 =>
  if v2 = 0 then
    f_X3_nextBed_79 κ F k17 l0 l1 l2 t0 l4 s1
  else
    if l2 = (-1000 : Int32) then
      f_X3_nextBed_75 κ F k17 l0 l1 l2 t0 l4 s1
    else
      gB1 (gfR s1 l0 7 3) fun v4 =>
      gB1 (gaI s1 v4 0 l4) fun v5 =>
      gB1 (gfR s1 l0 7 3) fun v6 =>
      gB1 (gaI s1 v6 0 l2) fun v7 =>
      if v7 < v5 then
        f_X3_nextBed_79 κ F k17 l0 l1 l2 t0 l4 s1
      else
        f_X3_nextBed_75 κ F k17 l0 l1 l2 t0 l4 s1
set_option maxHeartbeats 4000000 in
theorem w_X3_nextBed_41 {E : gE} {F z0 n0 : Nat} {r : Int32} {s' : gS} {k17 : Option Nat → Int32 → Int32 → Int32 → Int32 → gS → Option (Int32 × gS)} (hk17 : ∀ (l0 : Option Nat) (l1 : Int32) (l2 : Int32) (l3 : Int32) (l4 : Int32) (s : gS), k17 l0 l1 l2 l3 l4 s = some (r, s') → W_X3_nextBed E z0 n0 r s' 17 [(0, vR l0), (1, vI l1), (2, vI l2), (3, vI l3), (4, vI l4)] [] s) : ∀ (l0 : Option Nat) (l1 : Int32) (l2 : Int32) (l4 : Int32) (t0 : Int32) (s : gS), f_X3_nextBed_41 (gk E) F k17 l0 l1 l2 l4 t0 s = some (r, s') → W_X3_nextBed E z0 n0 r s' 41 [(0, vR l0), (1, vI l1), (2, vI l2), (4, vI l4)] [vI t0] s := by
  intro l0 l1 l2 l4 t0 s hB
  unfold f_X3_nextBed_41 at hB
  refine gw_istore_n (L' := [(3, vI t0), (0, vR l0), (1, vI l1), (2, vI l2), (4, vI l4)]) (Nat.le_of_ble_eq_true rfl) rfl dX3_nextBed_41 ?_
  refine gw_aload_n 1 rfl dX3_nextBed_42 ?_
  refine gw_iload 4 rfl dX3_nextBed_43 ?_
  refine gw_iload_n 2 rfl dX3_nextBed_45 ?_
  obtain ⟨u0, hu3, hB⟩ := gB1_some hB
  obtain ⟨v2, s1, hv2, hB⟩ := gB2_some hB
  refine gw_callV (y := yX3_canBeDug) (lw_V q1311 q1312 q1313 q110 q1314) hdV_X3_canBeDug gcl7 hu3 (As := [vI l4, vI l1]) (rest := []) (m_X3_canBeDug _ _ _ _ _ _ hv2) (Nat.le_of_ble_eq_true rfl) (Nat.le_of_ble_eq_true rfl) rfl (Nat.le_of_ble_eq_true rfl) dX3_nextBed_46 (gCont_i ?_)
  refine gw_if_eq (tgt := 79) dX3_nextBed_49 (by decide) (fun hcnd => ?_) (fun hcnd => ?_)
  · rw [if_pos hcnd] at hB
    exact gw_sub [1, 2, 3, 0, 4] rfl (w_X3_nextBed_79 hk17 _ _ _ _ _ _ hB)
  · rw [if_neg hcnd] at hB
    refine gw_iload_n 3 rfl dX3_nextBed_52 ?_
    refine gw_sipush (v := (-1000 : Int32)) (by decide) dX3_nextBed_53 ?_
    refine gw_icmp_eq (tgt := 75) dX3_nextBed_56 (by decide) (fun hcnd => ?_) (fun hcnd => ?_)
    · rw [if_pos hcnd] at hB
      exact gw_sub [1, 2, 3, 0, 4] rfl (w_X3_nextBed_75 hk17 _ _ _ _ _ _ hB)
    · rw [if_neg hcnd] at hB
      refine gw_aload_n 1 rfl dX3_nextBed_59 ?_
      obtain ⟨v4, hv4, hB⟩ := gB1_some hB
      refine gw_getf (C := RX3) (T := TX3) (N := 9) (k := 3) gcl7 (by decide) in_X3 q285 (gfR_spec hv4) dX3_nextBed_60 ?_
      refine gw_iload 4 rfl dX3_nextBed_63 ?_
      obtain ⟨v5, hv5, hB⟩ := gB1_some hB
      refine gw_iaload hv5 dX3_nextBed_65 ?_
      refine gw_aload_n 1 rfl dX3_nextBed_66 ?_
      obtain ⟨v6, hv6, hB⟩ := gB1_some hB
      refine gw_getf (C := RX3) (T := TX3) (N := 9) (k := 3) gcl7 (by decide) in_X3 q285 (gfR_spec hv6) dX3_nextBed_67 ?_
      refine gw_iload_n 3 rfl dX3_nextBed_70 ?_
      obtain ⟨v7, hv7, hB⟩ := gB1_some hB
      refine gw_iaload hv7 dX3_nextBed_71 ?_
      refine gw_icmp_gt (tgt := 79) dX3_nextBed_72 (by decide) (fun hcnd => ?_) (fun hcnd => ?_)
      · rw [if_pos hcnd] at hB
        exact gw_sub [1, 2, 3, 0, 4] rfl (w_X3_nextBed_79 hk17 _ _ _ _ _ _ hB)
      · rw [if_neg hcnd] at hB
        exact gw_sub [1, 2, 3, 0, 4] rfl (w_X3_nextBed_75 hk17 _ _ _ _ _ _ hB)
noncomputable def f_X3_nextBed_112 (κ : gK) (F : Nat)  (t0 : Int32) (s : gS) : Option (Int32 × gS) :=
  some (t0, s)
set_option maxHeartbeats 4000000 in
theorem w_X3_nextBed_112 {E : gE} {F z0 n0 : Nat} {r : Int32} {s' : gS}   : ∀  (t0 : Int32) (s : gS), f_X3_nextBed_112 (gk E) F  t0 s = some (r, s') → W_X3_nextBed E z0 n0 r s' 112 [] [vI t0] s := by
  intro t0 s hB
  unfold f_X3_nextBed_112 at hB
  obtain ⟨rfl, rfl⟩ := Prod.mk.inj (Option.some.inj hB)
  exact gw_iret rfl rfl rfl dX3_nextBed_112
noncomputable def f_X3_nextBed_17b (κ : gK) (F : Nat) (k17 : Option Nat → Int32 → Int32 → Int32 → Int32 → gS → Option (Int32 × gS)) (l0 : Option Nat) (l1 : Int32) (l2 : Int32) (l3 : Int32) (l4 : Int32) (s : gS) : Option (Int32 × gS) :=
  if l4 < 0 then
    if l2 = (-1000 : Int32) then
      f_X3_nextBed_112 κ F  l3 s
    else
      f_X3_nextBed_112 κ F  l2 s
  else
    gB1 (gfR s l0 7 1) fun v1 =>
    gB1 (gaR s v1 l4) fun v2 =>
    if v2 = (κ.2 0) then
      f_X3_nextBed_41 κ F k17 l0 l1 l2 l4 l4 s
    else
      f_X3_nextBed_41 κ F k17 l0 l1 l2 l4 l3 s
noncomputable def f_X3_nextBed_17 (κ : gK) (F : Nat)  : Nat → Option Nat → Int32 → Int32 → Int32 → Int32 → gS → Option (Int32 × gS)
  | 0 => fun _ _ _ _ _ _ => none
  | n + 1 => f_X3_nextBed_17b κ F  (f_X3_nextBed_17 κ F  n)
set_option maxHeartbeats 4000000 in
theorem w_X3_nextBed_17b {E : gE} {F z0 n0 : Nat} {r : Int32} {s' : gS} {k17 : Option Nat → Int32 → Int32 → Int32 → Int32 → gS → Option (Int32 × gS)} (hk17 : ∀ (l0 : Option Nat) (l1 : Int32) (l2 : Int32) (l3 : Int32) (l4 : Int32) (s : gS), k17 l0 l1 l2 l3 l4 s = some (r, s') → W_X3_nextBed E z0 n0 r s' 17 [(0, vR l0), (1, vI l1), (2, vI l2), (3, vI l3), (4, vI l4)] [] s) : ∀ (l0 : Option Nat) (l1 : Int32) (l2 : Int32) (l3 : Int32) (l4 : Int32)  (s : gS), f_X3_nextBed_17b (gk E) F k17 l0 l1 l2 l3 l4 s = some (r, s') → W_X3_nextBed E z0 n0 r s' 17 [(0, vR l0), (1, vI l1), (2, vI l2), (3, vI l3), (4, vI l4)] [] s := by
  intro l0 l1 l2 l3 l4 s hB
  unfold f_X3_nextBed_17b at hB
  refine gw_iload 4 rfl dX3_nextBed_17 ?_
  refine gw_if_lt (tgt := 100) dX3_nextBed_19 (by decide) (fun hcnd => ?_) (fun hcnd => ?_)
  · rw [if_pos hcnd] at hB
    refine gw_iload_n 2 rfl dX3_nextBed_100 ?_
    refine gw_sipush (v := (-1000 : Int32)) (by decide) dX3_nextBed_101 ?_
    refine gw_icmp_ne (tgt := 111) dX3_nextBed_104 (by decide) (fun hcnd => ?_) (fun hcnd => ?_)
    · rw [if_neg hcnd] at hB
      refine gw_iload_n 2 rfl dX3_nextBed_111 ?_
      exact gw_sub [] rfl (w_X3_nextBed_112  _ _ hB)
    · rw [if_pos hcnd] at hB
      refine gw_iload_n 3 rfl dX3_nextBed_107 ?_
      refine gw_goto (tgt := 112) dX3_nextBed_108 (by decide) ?_
      exact gw_sub [] rfl (w_X3_nextBed_112  _ _ hB)
  · rw [if_neg hcnd] at hB
    refine gw_aload_n 0 rfl dX3_nextBed_22 ?_
    obtain ⟨v1, hv1, hB⟩ := gB1_some hB
    refine gw_getf (C := RX3) (T := TX3) (N := 9) (k := 1) gcl7 (by decide) in_X3 q282 (gfR_spec hv1) dX3_nextBed_23 ?_
    refine gw_iload 4 rfl dX3_nextBed_26 ?_
    obtain ⟨v2, hv2, hB⟩ := gB1_some hB
    refine gw_aaload hv2 dX3_nextBed_28 ?_
    refine gw_gets (i := 0) (by decide) q279 dX3_nextBed_29 ?_
    refine gw_acmp_ne (tgt := 40) dX3_nextBed_32 (by decide) (fun hcnd => ?_) (fun hcnd => ?_)
    · rw [if_neg hcnd] at hB
      refine gw_iload_n 3 rfl dX3_nextBed_40 ?_
      exact gw_sub [0, 1, 2, 4] rfl (w_X3_nextBed_41 hk17 _ _ _ _ _ _ hB)
    · rw [if_pos hcnd] at hB
      refine gw_iload 4 rfl dX3_nextBed_35 ?_
      refine gw_goto (tgt := 41) dX3_nextBed_37 (by decide) ?_
      exact gw_sub [0, 1, 2, 4] rfl (w_X3_nextBed_41 hk17 _ _ _ _ _ _ hB)
theorem w_X3_nextBed_17 {E : gE} {F z0 n0 : Nat} {r : Int32} {s' : gS}   : ∀ (n : Nat) (l0 : Option Nat) (l1 : Int32) (l2 : Int32) (l3 : Int32) (l4 : Int32)  (s : gS), f_X3_nextBed_17 (gk E) F  n l0 l1 l2 l3 l4 s = some (r, s') → W_X3_nextBed E z0 n0 r s' 17 [(0, vR l0), (1, vI l1), (2, vI l2), (3, vI l3), (4, vI l4)] [] s := by
  intro n
  induction n with
  | zero => intro l0 l1 l2 l3 l4 s hB; cases hB
  | succ n ih => intro l0 l1 l2 l3 l4 s hB; exact w_X3_nextBed_17b ih l0 l1 l2 l3 l4 s hB
noncomputable def f_X3_nextBed_0 (κ : gK) (F : Nat)  (l0 : Option Nat) (s : gS) : Option (Int32 × gS) :=
  gB1 (gck s l0 7) fun _ =>
  gB2 (f_X3_needed κ F l0  s) fun v2 s1 =>
  f_X3_nextBed_17 κ F  F l0 v2 (-1000 : Int32) (-1000 : Int32) (31 : Int32) s1
set_option maxHeartbeats 4000000 in
theorem w_X3_nextBed_0 {E : gE} {F z0 n0 : Nat} {r : Int32} {s' : gS}   : ∀ (l0 : Option Nat)  (s : gS), f_X3_nextBed_0 (gk E) F  l0 s = some (r, s') → W_X3_nextBed E z0 n0 r s' 0 [(0, vR l0)] [] s := by
  intro l0 s hB
  unfold f_X3_nextBed_0 at hB
  refine gw_aload_n 0 rfl dX3_nextBed_0 ?_
  obtain ⟨u0, hu3, hB⟩ := gB1_some hB
  obtain ⟨v2, s1, hv2, hB⟩ := gB2_some hB
  refine gw_callV (y := yX3_needed) (lw_V q1294 q1295 q1296 q110 q1297) hdV_X3_needed gcl7 hu3 (As := []) (rest := []) (m_X3_needed _ _ _ _ hv2) (Nat.le_of_ble_eq_true rfl) (Nat.le_of_ble_eq_true rfl) rfl (Nat.le_of_ble_eq_true rfl) dX3_nextBed_1 (gCont_i ?_)
  refine gw_istore_n (L' := [(1, vI v2), (0, vR l0)]) (Nat.le_of_ble_eq_true rfl) rfl dX3_nextBed_4 ?_
  refine gw_sipush (v := (-1000 : Int32)) (by decide) dX3_nextBed_5 ?_
  refine gw_istore_n (L' := [(2, vI (-1000 : Int32)), (1, vI v2), (0, vR l0)]) (Nat.le_of_ble_eq_true rfl) rfl dX3_nextBed_8 ?_
  refine gw_sipush (v := (-1000 : Int32)) (by decide) dX3_nextBed_9 ?_
  refine gw_istore_n (L' := [(3, vI (-1000 : Int32)), (2, vI (-1000 : Int32)), (1, vI v2), (0, vR l0)]) (Nat.le_of_ble_eq_true rfl) rfl dX3_nextBed_12 ?_
  refine gw_bipush (v := (31 : Int32)) (by decide) dX3_nextBed_13 ?_
  refine gw_istore (L' := [(4, vI (31 : Int32)), (3, vI (-1000 : Int32)), (2, vI (-1000 : Int32)), (1, vI v2), (0, vR l0)]) (Nat.le_of_ble_eq_true rfl) rfl dX3_nextBed_15 ?_
  exact gw_sub [4, 3, 2, 1, 0] rfl (w_X3_nextBed_17  F _ _ _ _ _ _ hB)
noncomputable def f_X3_nextBed (κ : gK) (F : Nat) (a0 : Option Nat) (s : gS) : Option (Int32 × gS) := f_X3_nextBed_0 κ F a0 s
theorem m_X3_nextBed {E : gE} {F : Nat} (a0 : Option Nat) (s : gS) (r : Int32) (s' : gS) (h : f_X3_nextBed (gk E) F a0 s = some (r, s')) : gCT E 5 yX3_nextBed (ws_ yX3_nextBed cX3_nextBed 6 (some FieldType.int)) [vR a0] s (.inl (some (vI r))) s' := by
  refine gCT_of2 (fun h => absurd h (by decide)) (plainFor_of_name (by decide)) (Nat.le_of_ble_eq_true rfl) ?_
  exact gw_sub [0] rfl (w_X3_nextBed_0 _ _ h)
def dkwX3_dig_2 : List UInt8 := [180, 0, 30, 28, 50, 182, 0, 198, 62, 28, 172]
abbrev dktX3_dig_2 : List UInt8 := dkwX3_dig_2 ++ []
def dkwX3_dig_1 : List UInt8 := [180, 0, 20, 28, 178, 0, 187, 83, 42, 28, 43, 182, 0, 190, 42, 180, 0, 80, 180, 0, 194, 42]
abbrev dktX3_dig_1 : List UInt8 := dkwX3_dig_1 ++ dktX3_dig_2
def dkwX3_dig_0 : List UInt8 := [42, 182, 0, 178, 61, 28, 17, 252, 24, 159, 0, 7, 4, 167, 0, 4, 3, 18, 181, 184, 0, 183, 42]
abbrev dktX3_dig_0 : List UInt8 := dkwX3_dig_0 ++ dktX3_dig_1
theorem dksX3_dig_0 : cX3_dig.data.toList.drop 0 = dktX3_dig_0 := by decide +kernel
theorem dksX3_dig_1 : cX3_dig.data.toList.drop 23 = dktX3_dig_1 := dk_seg dksX3_dig_0 23 rfl rfl
theorem dksX3_dig_2 : cX3_dig.data.toList.drop 45 = dktX3_dig_2 := dk_seg dksX3_dig_1 22 rfl rfl
theorem dX3_dig_0 : decode cX3_dig 0 = .ok (.aload_n 0, 1) := dk_42 (dk_at dksX3_dig_0 0 rfl rfl)
theorem dX3_dig_1 : decode cX3_dig 1 = .ok (.invokevirtual 178, 3) := dk_182 0 178 (dk_at dksX3_dig_0 1 rfl rfl)
theorem dX3_dig_4 : decode cX3_dig 4 = .ok (.istore_n 2, 1) := dk_61 (dk_at dksX3_dig_0 4 rfl rfl)
theorem dX3_dig_5 : decode cX3_dig 5 = .ok (.iload_n 2, 1) := dk_28 (dk_at dksX3_dig_0 5 rfl rfl)
theorem dX3_dig_6 : decode cX3_dig 6 = .ok (.sipush (-1000), 3) := dk_17 252 24 (dk_at dksX3_dig_0 6 rfl rfl)
theorem dX3_dig_9 : decode cX3_dig 9 = .ok (.if_icmp .eq 7, 3) := dk_159 0 7 (dk_at dksX3_dig_0 9 rfl rfl)
theorem dX3_dig_12 : decode cX3_dig 12 = .ok (.iconst 1, 1) := dk_4 (dk_at dksX3_dig_0 12 rfl rfl)
theorem dX3_dig_13 : decode cX3_dig 13 = .ok (.goto 4, 3) := dk_167 0 4 (dk_at dksX3_dig_0 13 rfl rfl)
theorem dX3_dig_16 : decode cX3_dig 16 = .ok (.iconst 0, 1) := dk_3 (dk_at dksX3_dig_0 16 rfl rfl)
theorem dX3_dig_17 : decode cX3_dig 17 = .ok (.ldc 181, 2) := dk_18 181 (dk_at dksX3_dig_0 17 rfl rfl)
theorem dX3_dig_19 : decode cX3_dig 19 = .ok (.invokestatic 183, 3) := dk_184 0 183 (dk_at dksX3_dig_0 19 rfl rfl)
theorem dX3_dig_22 : decode cX3_dig 22 = .ok (.aload_n 0, 1) := dk_42 (dk_at dksX3_dig_0 22 rfl rfl)
theorem dX3_dig_23 : decode cX3_dig 23 = .ok (.getfield 20, 3) := dk_180 0 20 (dk_at dksX3_dig_1 0 rfl rfl)
theorem dX3_dig_26 : decode cX3_dig 26 = .ok (.iload_n 2, 1) := dk_28 (dk_at dksX3_dig_1 3 rfl rfl)
theorem dX3_dig_27 : decode cX3_dig 27 = .ok (.getstatic 187, 3) := dk_178 0 187 (dk_at dksX3_dig_1 4 rfl rfl)
theorem dX3_dig_30 : decode cX3_dig 30 = .ok (.aastore, 1) := dk_83 (dk_at dksX3_dig_1 7 rfl rfl)
theorem dX3_dig_31 : decode cX3_dig 31 = .ok (.aload_n 0, 1) := dk_42 (dk_at dksX3_dig_1 8 rfl rfl)
theorem dX3_dig_32 : decode cX3_dig 32 = .ok (.iload_n 2, 1) := dk_28 (dk_at dksX3_dig_1 9 rfl rfl)
theorem dX3_dig_33 : decode cX3_dig 33 = .ok (.aload_n 1, 1) := dk_43 (dk_at dksX3_dig_1 10 rfl rfl)
theorem dX3_dig_34 : decode cX3_dig 34 = .ok (.invokevirtual 190, 3) := dk_182 0 190 (dk_at dksX3_dig_1 11 rfl rfl)
theorem dX3_dig_37 : decode cX3_dig 37 = .ok (.aload_n 0, 1) := dk_42 (dk_at dksX3_dig_1 14 rfl rfl)
theorem dX3_dig_38 : decode cX3_dig 38 = .ok (.getfield 80, 3) := dk_180 0 80 (dk_at dksX3_dig_1 15 rfl rfl)
theorem dX3_dig_41 : decode cX3_dig 41 = .ok (.getfield 194, 3) := dk_180 0 194 (dk_at dksX3_dig_1 18 rfl rfl)
theorem dX3_dig_44 : decode cX3_dig 44 = .ok (.aload_n 0, 1) := dk_42 (dk_at dksX3_dig_1 21 rfl rfl)
theorem dX3_dig_45 : decode cX3_dig 45 = .ok (.getfield 30, 3) := dk_180 0 30 (dk_at dksX3_dig_2 0 rfl rfl)
theorem dX3_dig_48 : decode cX3_dig 48 = .ok (.iload_n 2, 1) := dk_28 (dk_at dksX3_dig_2 3 rfl rfl)
theorem dX3_dig_49 : decode cX3_dig 49 = .ok (.aaload, 1) := dk_50 (dk_at dksX3_dig_2 4 rfl rfl)
theorem dX3_dig_50 : decode cX3_dig 50 = .ok (.invokevirtual 198, 3) := dk_182 0 198 (dk_at dksX3_dig_2 5 rfl rfl)
theorem dX3_dig_53 : decode cX3_dig 53 = .ok (.istore_n 3, 1) := dk_62 (dk_at dksX3_dig_2 8 rfl rfl)
theorem dX3_dig_54 : decode cX3_dig 54 = .ok (.iload_n 2, 1) := dk_28 (dk_at dksX3_dig_2 9 rfl rfl)
theorem dX3_dig_55 : decode cX3_dig 55 = .ok (.ireturn, 1) := dk_172 (dk_at dksX3_dig_2 10 rfl rfl)
/-! PageGarden$Garden.dig(LPageGarden$Page;)I -/
abbrev M_X3_dig (z0 n0 : Nat) (s' : gS) : gM := (RX3, cX3_dig, 4, (some FieldType.int), "dig", [], 10, z0, n0, s'.2.1, s'.2.2)
abbrev W_X3_dig (E : gE) (z0 n0 : Nat) (r : (Int32 ⊕ String)) (s' : gS) (pc : Nat) (L : List (Nat × gV)) (st : List gV) (s : gS) : Prop := gW E (M_X3_dig z0 n0 s') (gQm E (M_X3_dig z0 n0 s') (gOi r) s') pc L st s
noncomputable def f_X3_dig_17 (κ : gK) (F : Nat)  (l0 : Option Nat) (l1 : Option Nat) (l2 : Int32) (t0 : Int32) (s : gS) : Option ((Int32 ⊕ String) × gS) :=
  gB3 (f_X1_requireState κ F t0 (κ.2 26) s) fun v2 s1 =>
  gB1 (gfR s1 l0 7 1) fun v3 =>
  gB1 (gsR κ s1 v3 l2 (κ.2 1)) fun s4 =>
  gB1 (gck s4 l0 7) fun _ =>
  gB2 (f_X3_lay κ F l0 l2 l1 s4) fun v6 s5 =>
  gB1 (gfR s5 l0 7 6) fun v8 =>
  gB1 (gfR s5 v8 6 0) fun v9 =>
  gB1 (gfR s5 l0 7 2) fun v10 =>
  gB1 (gaR s5 v10 l2) fun v11 =>
  gB1 (gck s5 v9 12) fun _ =>
  gB2 (f_J27_add κ F v9 v11 s5) fun v13 s12 =>
  some ((.inl l2), s12)
set_option maxHeartbeats 4000000 in
theorem w_X3_dig_17 {E : gE} {F z0 n0 : Nat} {r : (Int32 ⊕ String)} {s' : gS}   : ∀ (l0 : Option Nat) (l1 : Option Nat) (l2 : Int32) (t0 : Int32) (s : gS), f_X3_dig_17 (gk E) F  l0 l1 l2 t0 s = some (r, s') → W_X3_dig E z0 n0 r s' 17 [(0, vR l0), (1, vR l1), (2, vI l2)] [vI t0] s := by
  intro l0 l1 l2 t0 s hB
  unfold f_X3_dig_17 at hB
  refine gw_ldcS (own := "PageGarden$Garden") (tx := "no bed") (i := 26) rfl (by decide) dX3_dig_17 ?_
  rcases gB3_some hB with ⟨v2, s1, hv2, hB⟩ | ⟨Cv2, hv2, hzv2⟩
  rotate_left
  · subst hzv2
    exact gw_callSN (y := yX1_requireState) (lw_meth q2017) q108 q2015 q2016 hdS_X1_requireState (As := [vI t0, vR ((gk E).2 26)]) (rest := []) (m_X1_requireState _ _ _ _ _ hv2) (Nat.le_of_ble_eq_true rfl) (Nat.le_of_ble_eq_true rfl) rfl (Nat.le_of_ble_eq_true rfl) dX3_dig_19 (gCont_x (gx_out rfl rfl rfl))
  refine gw_callSN (y := yX1_requireState) (lw_meth q2017) q108 q2015 q2016 hdS_X1_requireState (As := [vI t0, vR ((gk E).2 26)]) (rest := []) (m_X1_requireState _ _ _ _ _ hv2) (Nat.le_of_ble_eq_true rfl) (Nat.le_of_ble_eq_true rfl) rfl (Nat.le_of_ble_eq_true rfl) dX3_dig_19 (gCont_v ?_)
  refine gw_aload_n 0 rfl dX3_dig_22 ?_
  obtain ⟨v3, hv3, hB⟩ := gB1_some hB
  refine gw_getf (C := RX3) (T := TX3) (N := 9) (k := 1) gcl7 (by decide) in_X3 q282 (gfR_spec hv3) dX3_dig_23 ?_
  refine gw_iload_n 2 rfl dX3_dig_26 ?_
  refine gw_gets (i := 1) (by decide) q2120 dX3_dig_27 ?_
  obtain ⟨s4, hs4, hB⟩ := gB1_some hB
  refine gw_aastore hs4 dX3_dig_30 ?_
  refine gw_aload_n 0 rfl dX3_dig_31 ?_
  refine gw_iload_n 2 rfl dX3_dig_32 ?_
  refine gw_aload_n 1 rfl dX3_dig_33 ?_
  obtain ⟨u0, hu7, hB⟩ := gB1_some hB
  obtain ⟨v6, s5, hv6, hB⟩ := gB2_some hB
  refine gw_callV (y := yX3_lay) (lw_V q2121 q327 qs0 q110 q328) hdV_X3_lay gcl7 hu7 (As := [vI l2, vR l1]) (rest := []) (m_X3_lay _ _ _ _ _ _ hv6) (Nat.le_of_ble_eq_true rfl) (Nat.le_of_ble_eq_true rfl) rfl (Nat.le_of_ble_eq_true rfl) dX3_dig_34 (gCont_v ?_)
  refine gw_aload_n 0 rfl dX3_dig_37 ?_
  obtain ⟨v8, hv8, hB⟩ := gB1_some hB
  refine gw_getf (C := RX3) (T := TX3) (N := 9) (k := 6) gcl7 (by decide) in_X3 q289 (gfR_spec hv8) dX3_dig_38 ?_
  obtain ⟨v9, hv9, hB⟩ := gB1_some hB
  refine gw_getfN (C := RX7) (T := TX7) (N := 3) (k := 0) gcl6 (by decide) in_X7 q1787 (gfR_spec hv9) dX3_dig_41 ?_
  refine gw_aload_n 0 rfl dX3_dig_44 ?_
  obtain ⟨v10, hv10, hB⟩ := gB1_some hB
  refine gw_getf (C := RX3) (T := TX3) (N := 9) (k := 2) gcl7 (by decide) in_X3 q284 (gfR_spec hv10) dX3_dig_45 ?_
  refine gw_iload_n 2 rfl dX3_dig_48 ?_
  obtain ⟨v11, hv11, hB⟩ := gB1_some hB
  refine gw_aaload hv11 dX3_dig_49 ?_
  obtain ⟨u0, hu14, hB⟩ := gB1_some hB
  obtain ⟨v13, s12, hv13, hB⟩ := gB2_some hB
  refine gw_callU (C := "java/util/LinkedHashSet") (owner := "java/util/HashSet") (x := ⟨"java/util/LinkedHashSet", "add", "(Ljava/lang/Object;)Z"⟩) (y := yJ27_add) (lw_app (lw_in (([Cond.methodLink "PageGarden$Garden" 198 ⟨"java/util/LinkedHashSet", "add", "(Ljava/lang/Object;)Z"⟩, Cond.sameMethod "java/util/LinkedHashSet" "java/util/HashSet" "add" "(Ljava/lang/Object;)Z", Cond.selects "java/util/LinkedHashSet" ⟨"java/util/LinkedHashSet", "add", "(Ljava/lang/Object;)Z"⟩ yJ27_add, Cond.instanceMethod yJ27_add, Cond.initialized "java/util/HashSet"] : List Cond)) [2122, 1951, 1953, 1954, 146] (by decide +kernel) (by decide +kernel)) (lw_meth q1955)) rfl (show _ ∧ _ ∧ _ = some 1 from by decide +kernel) gcl12 hu14 (As := [vR v11]) (rest := []) (m_J27_add _ _ _ _ _ hv13) (Nat.le_of_ble_eq_true rfl) (Nat.le_of_ble_eq_true rfl) rfl (Nat.le_of_ble_eq_true rfl) dX3_dig_50 (gCont_i ?_)
  refine gw_istore_n (L' := [(3, vI v13), (0, vR l0), (1, vR l1), (2, vI l2)]) (Nat.le_of_ble_eq_true rfl) rfl dX3_dig_53 ?_
  refine gw_iload_n 3 rfl dX3_dig_54 ?_
  obtain ⟨rfl, rfl⟩ := Prod.mk.inj (Option.some.inj hB)
  exact gw_iret rfl rfl rfl dX3_dig_55
noncomputable def f_X3_dig_0 (κ : gK) (F : Nat)  (l0 : Option Nat) (l1 : Option Nat) (s : gS) : Option ((Int32 ⊕ String) × gS) :=
  gB1 (gck s l0 7) fun _ =>
  gB2 (f_X3_nextBed κ F l0  s) fun v2 s1 =>
  if v2 = (-1000 : Int32) then
    f_X3_dig_17 κ F  l0 l1 v2 (0 : Int32) s1
  else
    f_X3_dig_17 κ F  l0 l1 v2 (1 : Int32) s1
set_option maxHeartbeats 4000000 in
theorem w_X3_dig_0 {E : gE} {F z0 n0 : Nat} {r : (Int32 ⊕ String)} {s' : gS}   : ∀ (l0 : Option Nat) (l1 : Option Nat)  (s : gS), f_X3_dig_0 (gk E) F  l0 l1 s = some (r, s') → W_X3_dig E z0 n0 r s' 0 [(0, vR l0), (1, vR l1)] [] s := by
  intro l0 l1 s hB
  unfold f_X3_dig_0 at hB
  refine gw_aload_n 0 rfl dX3_dig_0 ?_
  obtain ⟨u0, hu3, hB⟩ := gB1_some hB
  obtain ⟨v2, s1, hv2, hB⟩ := gB2_some hB
  refine gw_callV (y := yX3_nextBed) (lw_V q2118 q1291 q1292 q110 q1293) hdV_X3_nextBed gcl7 hu3 (As := []) (rest := []) (m_X3_nextBed _ _ _ _ hv2) (Nat.le_of_ble_eq_true rfl) (Nat.le_of_ble_eq_true rfl) rfl (Nat.le_of_ble_eq_true rfl) dX3_dig_1 (gCont_i ?_)
  refine gw_istore_n (L' := [(2, vI v2), (0, vR l0), (1, vR l1)]) (Nat.le_of_ble_eq_true rfl) rfl dX3_dig_4 ?_
  refine gw_iload_n 0 rfl dX3_dig_5 ?_
  refine gw_sipush (v := (-1000 : Int32)) (by decide) dX3_dig_6 ?_
  refine gw_icmp_eq (tgt := 16) dX3_dig_9 (by decide) (fun hcnd => ?_) (fun hcnd => ?_)
  · rw [if_pos hcnd] at hB
    refine gw_iconst (v := (0 : Int32)) (by decide) dX3_dig_16 ?_
    exact gw_sub [1, 2, 0] rfl (w_X3_dig_17  _ _ _ _ _ hB)
  · rw [if_neg hcnd] at hB
    refine gw_iconst (v := (1 : Int32)) (by decide) dX3_dig_12 ?_
    refine gw_goto (tgt := 17) dX3_dig_13 (by decide) ?_
    exact gw_sub [1, 2, 0] rfl (w_X3_dig_17  _ _ _ _ _ hB)
noncomputable def f_X3_dig (κ : gK) (F : Nat) (a0 : Option Nat) (a1 : Option Nat) (s : gS) : Option ((Int32 ⊕ String) × gS) := f_X3_dig_0 κ F a0 a1 s
theorem m_X3_dig {E : gE} {F : Nat} (a0 : Option Nat) (a1 : Option Nat) (s : gS) (r : (Int32 ⊕ String)) (s' : gS) (h : f_X3_dig (gk E) F a0 a1 s = some (r, s')) : gCT E 10 yX3_dig (ws_ yX3_dig cX3_dig 4 (some FieldType.int)) [vR a0, vR a1] s (gOi r) s' := by
  refine gCT_of2 (fun h => absurd h (by decide)) (plainFor_of_name (by decide)) (Nat.le_of_ble_eq_true rfl) ?_
  exact gw_sub [0, 1] rfl (w_X3_dig_0 _ _ _ h)
def dkwX3_setDirectory_0 : List UInt8 := [42, 42, 180, 0, 80, 180, 0, 230, 43, 182, 0, 190, 177]
abbrev dktX3_setDirectory_0 : List UInt8 := dkwX3_setDirectory_0 ++ []
theorem dksX3_setDirectory_0 : cX3_setDirectory.data.toList.drop 0 = dktX3_setDirectory_0 := by decide +kernel
theorem dX3_setDirectory_0 : decode cX3_setDirectory 0 = .ok (.aload_n 0, 1) := dk_42 (dk_at dksX3_setDirectory_0 0 rfl rfl)
theorem dX3_setDirectory_1 : decode cX3_setDirectory 1 = .ok (.aload_n 0, 1) := dk_42 (dk_at dksX3_setDirectory_0 1 rfl rfl)
theorem dX3_setDirectory_2 : decode cX3_setDirectory 2 = .ok (.getfield 80, 3) := dk_180 0 80 (dk_at dksX3_setDirectory_0 2 rfl rfl)
theorem dX3_setDirectory_5 : decode cX3_setDirectory 5 = .ok (.getfield 230, 3) := dk_180 0 230 (dk_at dksX3_setDirectory_0 5 rfl rfl)
theorem dX3_setDirectory_8 : decode cX3_setDirectory 8 = .ok (.aload_n 1, 1) := dk_43 (dk_at dksX3_setDirectory_0 8 rfl rfl)
theorem dX3_setDirectory_9 : decode cX3_setDirectory 9 = .ok (.invokevirtual 190, 3) := dk_182 0 190 (dk_at dksX3_setDirectory_0 9 rfl rfl)
theorem dX3_setDirectory_12 : decode cX3_setDirectory 12 = .ok (.return_, 1) := dk_177 (dk_at dksX3_setDirectory_0 12 rfl rfl)
/-! PageGarden$Garden.setDirectory(LPageGarden$Directory;)V -/
abbrev M_X3_setDirectory (z0 n0 : Nat) (s' : gS) : gM := (RX3, cX3_setDirectory, 2, none, "setDirectory", [], 7, z0, n0, s'.2.1, s'.2.2)
abbrev W_X3_setDirectory (E : gE) (z0 n0 : Nat) (r : Unit) (s' : gS) (pc : Nat) (L : List (Nat × gV)) (st : List gV) (s : gS) : Prop := gW E (M_X3_setDirectory z0 n0 s') (gQm E (M_X3_setDirectory z0 n0 s') (.inl none) s') pc L st s
noncomputable def f_X3_setDirectory_0 (κ : gK) (F : Nat)  (l0 : Option Nat) (l1 : Option Nat) (s : gS) : Option (Unit × gS) :=
  gB1 (gfR s l0 7 6) fun v1 =>
  gB1 (gfI s v1 6 2) fun v2 =>
  gB1 (gck s l0 7) fun _ =>
  gB2 (f_X3_lay κ F l0 v2 l1 s) fun v4 s3 =>
  some ((), s3)
set_option maxHeartbeats 4000000 in
theorem w_X3_setDirectory_0 {E : gE} {F z0 n0 : Nat} {r : Unit} {s' : gS}   : ∀ (l0 : Option Nat) (l1 : Option Nat)  (s : gS), f_X3_setDirectory_0 (gk E) F  l0 l1 s = some (r, s') → W_X3_setDirectory E z0 n0 r s' 0 [(0, vR l0), (1, vR l1)] [] s := by
  intro l0 l1 s hB
  unfold f_X3_setDirectory_0 at hB
  refine gw_aload_n 0 rfl dX3_setDirectory_0 ?_
  refine gw_aload_n 0 rfl dX3_setDirectory_1 ?_
  obtain ⟨v1, hv1, hB⟩ := gB1_some hB
  refine gw_getf (C := RX3) (T := TX3) (N := 9) (k := 6) gcl7 (by decide) in_X3 q289 (gfR_spec hv1) dX3_setDirectory_2 ?_
  obtain ⟨v2, hv2, hB⟩ := gB1_some hB
  refine gw_getfN (C := RX7) (T := TX7) (N := 3) (k := 2) gcl6 (by decide) in_X7 q1791 (gfI_spec hv2) dX3_setDirectory_5 ?_
  refine gw_aload_n 1 rfl dX3_setDirectory_8 ?_
  obtain ⟨u0, hu5, hB⟩ := gB1_some hB
  obtain ⟨v4, s3, hv4, hB⟩ := gB2_some hB
  refine gw_callV (y := yX3_lay) (lw_V q2121 q327 qs0 q110 q328) hdV_X3_lay gcl7 hu5 (As := [vI v2, vR l1]) (rest := []) (m_X3_lay _ _ _ _ _ _ hv4) (Nat.le_of_ble_eq_true rfl) (Nat.le_of_ble_eq_true rfl) rfl (Nat.le_of_ble_eq_true rfl) dX3_setDirectory_9 (gCont_v ?_)
  obtain ⟨rfl, rfl⟩ := Prod.mk.inj (Option.some.inj hB)
  exact gw_vret rfl rfl rfl dX3_setDirectory_12
noncomputable def f_X3_setDirectory (κ : gK) (F : Nat) (a0 : Option Nat) (a1 : Option Nat) (s : gS) : Option (Unit × gS) := f_X3_setDirectory_0 κ F a0 a1 s
theorem m_X3_setDirectory {E : gE} {F : Nat} (a0 : Option Nat) (a1 : Option Nat) (s : gS) (r : Unit) (s' : gS) (h : f_X3_setDirectory (gk E) F a0 a1 s = some (r, s')) : gCT E 7 yX3_setDirectory (ws_ yX3_setDirectory cX3_setDirectory 2 none) [vR a0, vR a1] s (.inl none) s' := by
  refine gCT_of2 (fun h => absurd h (by decide)) (plainFor_of_name (by decide)) (Nat.le_of_ble_eq_true rfl) ?_
  exact gw_sub [0, 1] rfl (w_X3_setDirectory_0 _ _ _ h)
def dkwJ27_remove_0 : List UInt8 := [42, 180, 0, 10, 43, 182, 0, 72, 178, 0, 64, 166, 0, 7, 4, 167, 0, 4, 3, 172]
abbrev dktJ27_remove_0 : List UInt8 := dkwJ27_remove_0 ++ []
theorem dksJ27_remove_0 : cJ27_remove.data.toList.drop 0 = dktJ27_remove_0 := by decide +kernel
theorem dJ27_remove_0 : decode cJ27_remove 0 = .ok (.aload_n 0, 1) := dk_42 (dk_at dksJ27_remove_0 0 rfl rfl)
theorem dJ27_remove_1 : decode cJ27_remove 1 = .ok (.getfield 10, 3) := dk_180 0 10 (dk_at dksJ27_remove_0 1 rfl rfl)
theorem dJ27_remove_4 : decode cJ27_remove 4 = .ok (.aload_n 1, 1) := dk_43 (dk_at dksJ27_remove_0 4 rfl rfl)
theorem dJ27_remove_5 : decode cJ27_remove 5 = .ok (.invokevirtual 72, 3) := dk_182 0 72 (dk_at dksJ27_remove_0 5 rfl rfl)
theorem dJ27_remove_8 : decode cJ27_remove 8 = .ok (.getstatic 64, 3) := dk_178 0 64 (dk_at dksJ27_remove_0 8 rfl rfl)
theorem dJ27_remove_11 : decode cJ27_remove 11 = .ok (.if_acmp .ne 7, 3) := dk_166 0 7 (dk_at dksJ27_remove_0 11 rfl rfl)
theorem dJ27_remove_14 : decode cJ27_remove 14 = .ok (.iconst 1, 1) := dk_4 (dk_at dksJ27_remove_0 14 rfl rfl)
theorem dJ27_remove_15 : decode cJ27_remove 15 = .ok (.goto 4, 3) := dk_167 0 4 (dk_at dksJ27_remove_0 15 rfl rfl)
theorem dJ27_remove_18 : decode cJ27_remove 18 = .ok (.iconst 0, 1) := dk_3 (dk_at dksJ27_remove_0 18 rfl rfl)
theorem dJ27_remove_19 : decode cJ27_remove 19 = .ok (.ireturn, 1) := dk_172 (dk_at dksJ27_remove_0 19 rfl rfl)
/-! java/util/HashSet.remove(Ljava/lang/Object;)Z -/
abbrev M_J27_remove (z0 n0 : Nat) (s' : gS) : gM := (RJ27, cJ27_remove, 2, (some FieldType.boolean), "remove", [], 4, z0, n0, s'.2.1, s'.2.2)
abbrev W_J27_remove (E : gE) (z0 n0 : Nat) (r : Int32) (s' : gS) (pc : Nat) (L : List (Nat × gV)) (st : List gV) (s : gS) : Prop := gW E (M_J27_remove z0 n0 s') (gQm E (M_J27_remove z0 n0 s') (.inl (some (vI r))) s') pc L st s
noncomputable def f_J27_remove_19 (κ : gK) (F : Nat)  (t0 : Int32) (s : gS) : Option (Int32 × gS) :=
  gB1 (gok .boolean t0) fun _ => some (t0, s)
set_option maxHeartbeats 4000000 in
theorem w_J27_remove_19 {E : gE} {F z0 n0 : Nat} {r : Int32} {s' : gS}   : ∀  (t0 : Int32) (s : gS), f_J27_remove_19 (gk E) F  t0 s = some (r, s') → W_J27_remove E z0 n0 r s' 19 [] [vI t0] s := by
  intro t0 s hB
  unfold f_J27_remove_19 at hB
  obtain ⟨u, hu, hB⟩ := gB1_some hB
  obtain ⟨rfl, rfl⟩ := Prod.mk.inj (Option.some.inj hB)
  exact gw_zret rfl hu rfl rfl dJ27_remove_19
noncomputable def f_J27_remove_0 (κ : gK) (F : Nat)  (l0 : Option Nat) (l1 : Option Nat) (s : gS) : Option (Int32 × gS) :=
  gB1 (gfR s l0 12 0) fun v1 =>
  gB1 (gck s v1 10) fun _ =>
  gB2 (f_J1_remove κ F v1 l1 s) fun v3 s2 =>
  if v3 = (κ.2 3) then
    f_J27_remove_19 κ F  (1 : Int32) s2
  else
    f_J27_remove_19 κ F  (0 : Int32) s2
set_option maxHeartbeats 4000000 in
theorem w_J27_remove_0 {E : gE} {F z0 n0 : Nat} {r : Int32} {s' : gS}   : ∀ (l0 : Option Nat) (l1 : Option Nat)  (s : gS), f_J27_remove_0 (gk E) F  l0 l1 s = some (r, s') → W_J27_remove E z0 n0 r s' 0 [(0, vR l0), (1, vR l1)] [] s := by
  intro l0 l1 s hB
  unfold f_J27_remove_0 at hB
  refine gw_aload_n 0 rfl dJ27_remove_0 ?_
  obtain ⟨v1, hv1, hB⟩ := gB1_some hB
  refine gw_getf (C := RJ28) (T := TJ28) (N := 1) (k := 0) gcl12 (by decide) in_J28 q1781 (gfR_spec hv1) dJ27_remove_1 ?_
  refine gw_aload_n 1 rfl dJ27_remove_4 ?_
  obtain ⟨u0, hu4, hB⟩ := gB1_some hB
  obtain ⟨v3, s2, hv3, hB⟩ := gB2_some hB
  refine gw_callU (C := "java/util/LinkedHashMap") (owner := "java/util/HashMap") (x := ⟨"java/util/HashMap", "remove", "(Ljava/lang/Object;)Ljava/lang/Object;"⟩) (y := yJ1_remove) (lw_app (lw_in (([Cond.methodLink "java/util/HashSet" 72 ⟨"java/util/HashMap", "remove", "(Ljava/lang/Object;)Ljava/lang/Object;"⟩, Cond.sameMethod "java/util/HashMap" "java/util/HashMap" "remove" "(Ljava/lang/Object;)Ljava/lang/Object;", Cond.selects "java/util/LinkedHashMap" ⟨"java/util/HashMap", "remove", "(Ljava/lang/Object;)Ljava/lang/Object;"⟩ yJ1_remove, Cond.instanceMethod yJ1_remove, Cond.initialized "java/util/HashMap"] : List Cond)) [2133, 2135, 2136, 2134, 113] (by decide +kernel) (by decide +kernel)) (lw_meth q2137)) rfl (show _ ∧ _ ∧ _ = some 1 from by decide +kernel) gcl10 hu4 (As := [vR l1]) (rest := []) (m_J1_remove _ _ _ _ _ hv3) (Nat.le_of_ble_eq_true rfl) (Nat.le_of_ble_eq_true rfl) rfl (Nat.le_of_ble_eq_true rfl) dJ27_remove_5 (gCont_i ?_)
  refine gw_gets (i := 3) (by decide) q1956 dJ27_remove_8 ?_
  refine gw_acmp_ne (tgt := 18) dJ27_remove_11 (by decide) (fun hcnd => ?_) (fun hcnd => ?_)
  · rw [if_neg hcnd] at hB
    refine gw_iconst (v := (0 : Int32)) (by decide) dJ27_remove_18 ?_
    exact gw_sub [] rfl (w_J27_remove_19  _ _ hB)
  · rw [if_pos hcnd] at hB
    refine gw_iconst (v := (1 : Int32)) (by decide) dJ27_remove_14 ?_
    refine gw_goto (tgt := 19) dJ27_remove_15 (by decide) ?_
    exact gw_sub [] rfl (w_J27_remove_19  _ _ hB)
noncomputable def f_J27_remove (κ : gK) (F : Nat) (a0 : Option Nat) (a1 : Option Nat) (s : gS) : Option (Int32 × gS) := f_J27_remove_0 κ F a0 a1 s
theorem m_J27_remove {E : gE} {F : Nat} (a0 : Option Nat) (a1 : Option Nat) (s : gS) (r : Int32) (s' : gS) (h : f_J27_remove (gk E) F a0 a1 s = some (r, s')) : gCT E 4 yJ27_remove (ws_ yJ27_remove cJ27_remove 2 (some FieldType.boolean)) [vR a0, vR a1] s (.inl (some (vI r))) s' := by
  refine gCT_of2 (fun h => absurd h (by decide)) (plainFor_of_name (by decide)) (Nat.le_of_ble_eq_true rfl) ?_
  exact gw_sub [0, 1] rfl (w_J27_remove_0 _ _ _ h)
def dkwX3_leave_2 : List UInt8 := [50, 182, 0, 198, 61, 177]
abbrev dktX3_leave_2 : List UInt8 := dkwX3_leave_2 ++ []
def dkwX3_leave_1 : List UInt8 := [182, 0, 210, 61, 42, 27, 182, 0, 212, 167, 0, 20, 42, 180, 0, 80, 180, 0, 216, 42, 180, 0, 30, 27]
abbrev dktX3_leave_1 : List UInt8 := dkwX3_leave_1 ++ dktX3_leave_2
def dkwX3_leave_0 : List UInt8 := [42, 180, 0, 80, 27, 182, 0, 207, 153, 0, 28, 42, 180, 0, 80, 180, 0, 194, 42, 180, 0, 30, 27, 50]
abbrev dktX3_leave_0 : List UInt8 := dkwX3_leave_0 ++ dktX3_leave_1
theorem dksX3_leave_0 : cX3_leave.data.toList.drop 0 = dktX3_leave_0 := by decide +kernel
theorem dksX3_leave_1 : cX3_leave.data.toList.drop 24 = dktX3_leave_1 := dk_seg dksX3_leave_0 24 rfl rfl
theorem dksX3_leave_2 : cX3_leave.data.toList.drop 48 = dktX3_leave_2 := dk_seg dksX3_leave_1 24 rfl rfl
theorem dX3_leave_0 : decode cX3_leave 0 = .ok (.aload_n 0, 1) := dk_42 (dk_at dksX3_leave_0 0 rfl rfl)
theorem dX3_leave_1 : decode cX3_leave 1 = .ok (.getfield 80, 3) := dk_180 0 80 (dk_at dksX3_leave_0 1 rfl rfl)
theorem dX3_leave_4 : decode cX3_leave 4 = .ok (.iload_n 1, 1) := dk_27 (dk_at dksX3_leave_0 4 rfl rfl)
theorem dX3_leave_5 : decode cX3_leave 5 = .ok (.invokevirtual 207, 3) := dk_182 0 207 (dk_at dksX3_leave_0 5 rfl rfl)
theorem dX3_leave_8 : decode cX3_leave 8 = .ok (.ifCond .eq 28, 3) := dk_153 0 28 (dk_at dksX3_leave_0 8 rfl rfl)
theorem dX3_leave_11 : decode cX3_leave 11 = .ok (.aload_n 0, 1) := dk_42 (dk_at dksX3_leave_0 11 rfl rfl)
theorem dX3_leave_12 : decode cX3_leave 12 = .ok (.getfield 80, 3) := dk_180 0 80 (dk_at dksX3_leave_0 12 rfl rfl)
theorem dX3_leave_15 : decode cX3_leave 15 = .ok (.getfield 194, 3) := dk_180 0 194 (dk_at dksX3_leave_0 15 rfl rfl)
theorem dX3_leave_18 : decode cX3_leave 18 = .ok (.aload_n 0, 1) := dk_42 (dk_at dksX3_leave_0 18 rfl rfl)
theorem dX3_leave_19 : decode cX3_leave 19 = .ok (.getfield 30, 3) := dk_180 0 30 (dk_at dksX3_leave_0 19 rfl rfl)
theorem dX3_leave_22 : decode cX3_leave 22 = .ok (.iload_n 1, 1) := dk_27 (dk_at dksX3_leave_0 22 rfl rfl)
theorem dX3_leave_23 : decode cX3_leave 23 = .ok (.aaload, 1) := dk_50 (dk_at dksX3_leave_0 23 rfl rfl)
theorem dX3_leave_24 : decode cX3_leave 24 = .ok (.invokevirtual 210, 3) := dk_182 0 210 (dk_at dksX3_leave_1 0 rfl rfl)
theorem dX3_leave_27 : decode cX3_leave 27 = .ok (.istore_n 2, 1) := dk_61 (dk_at dksX3_leave_1 3 rfl rfl)
theorem dX3_leave_28 : decode cX3_leave 28 = .ok (.aload_n 0, 1) := dk_42 (dk_at dksX3_leave_1 4 rfl rfl)
theorem dX3_leave_29 : decode cX3_leave 29 = .ok (.iload_n 1, 1) := dk_27 (dk_at dksX3_leave_1 5 rfl rfl)
theorem dX3_leave_30 : decode cX3_leave 30 = .ok (.invokevirtual 212, 3) := dk_182 0 212 (dk_at dksX3_leave_1 6 rfl rfl)
theorem dX3_leave_33 : decode cX3_leave 33 = .ok (.goto 20, 3) := dk_167 0 20 (dk_at dksX3_leave_1 9 rfl rfl)
theorem dX3_leave_36 : decode cX3_leave 36 = .ok (.aload_n 0, 1) := dk_42 (dk_at dksX3_leave_1 12 rfl rfl)
theorem dX3_leave_37 : decode cX3_leave 37 = .ok (.getfield 80, 3) := dk_180 0 80 (dk_at dksX3_leave_1 13 rfl rfl)
theorem dX3_leave_40 : decode cX3_leave 40 = .ok (.getfield 216, 3) := dk_180 0 216 (dk_at dksX3_leave_1 16 rfl rfl)
theorem dX3_leave_43 : decode cX3_leave 43 = .ok (.aload_n 0, 1) := dk_42 (dk_at dksX3_leave_1 19 rfl rfl)
theorem dX3_leave_44 : decode cX3_leave 44 = .ok (.getfield 30, 3) := dk_180 0 30 (dk_at dksX3_leave_1 20 rfl rfl)
theorem dX3_leave_47 : decode cX3_leave 47 = .ok (.iload_n 1, 1) := dk_27 (dk_at dksX3_leave_1 23 rfl rfl)
theorem dX3_leave_48 : decode cX3_leave 48 = .ok (.aaload, 1) := dk_50 (dk_at dksX3_leave_2 0 rfl rfl)
theorem dX3_leave_49 : decode cX3_leave 49 = .ok (.invokevirtual 198, 3) := dk_182 0 198 (dk_at dksX3_leave_2 1 rfl rfl)
theorem dX3_leave_52 : decode cX3_leave 52 = .ok (.istore_n 2, 1) := dk_61 (dk_at dksX3_leave_2 4 rfl rfl)
theorem dX3_leave_53 : decode cX3_leave 53 = .ok (.return_, 1) := dk_177 (dk_at dksX3_leave_2 5 rfl rfl)
/-! PageGarden$Garden.leave(I)V -/
abbrev M_X3_leave (z0 n0 : Nat) (s' : gS) : gM := (RX3, cX3_leave, 3, none, "leave", [], 7, z0, n0, s'.2.1, s'.2.2)
abbrev W_X3_leave (E : gE) (z0 n0 : Nat) (r : Unit) (s' : gS) (pc : Nat) (L : List (Nat × gV)) (st : List gV) (s : gS) : Prop := gW E (M_X3_leave z0 n0 s') (gQm E (M_X3_leave z0 n0 s') (.inl none) s') pc L st s
noncomputable def f_X3_leave_53 (κ : gK) (F : Nat)   (s : gS) : Option (Unit × gS) :=
  some ((), s)
set_option maxHeartbeats 4000000 in
theorem w_X3_leave_53 {E : gE} {F z0 n0 : Nat} {r : Unit} {s' : gS}   : ∀   (s : gS), f_X3_leave_53 (gk E) F   s = some (r, s') → W_X3_leave E z0 n0 r s' 53 [] [] s := by
  intro  s hB
  unfold f_X3_leave_53 at hB
  obtain ⟨rfl, rfl⟩ := Prod.mk.inj (Option.some.inj hB)
  exact gw_vret rfl rfl rfl dX3_leave_53
noncomputable def f_X3_leave_0 (κ : gK) (F : Nat)  (l0 : Option Nat) (l1 : Int32) (s : gS) : Option (Unit × gS) :=
  gB1 (gfR s l0 7 6) fun v1 =>
  gB1 (gck s v1 6) fun _ =>
  gB2 (f_X7_isNew κ F v1 l1 s) fun v3 s2 =>
  if v3 = 0 then
    gB1 (gfR s2 l0 7 6) fun v5 =>
    gB1 (gfR s2 v5 6 1) fun v6 =>
    gB1 (gfR s2 l0 7 2) fun v7 =>
    gB1 (gaR s2 v7 l1) fun v8 =>
    gB1 (gck s2 v6 12) fun _ =>
    gB2 (f_J27_add κ F v6 v8 s2) fun v10 s9 =>
    f_X3_leave_53 κ F  s9
  else
    gB1 (gfR s2 l0 7 6) fun v12 =>
    gB1 (gfR s2 v12 6 0) fun v13 =>
    gB1 (gfR s2 l0 7 2) fun v14 =>
    gB1 (gaR s2 v14 l1) fun v15 =>
    gB1 (gck s2 v13 12) fun _ =>
    gB2 (f_J27_remove κ F v13 v15 s2) fun v17 s16 =>
    gB1 (gck s16 l0 7) fun _ =>
    gB2 (f_X3_makeWild κ F l0 l1 s16) fun v20 s19 =>
    f_X3_leave_53 κ F  s19
set_option maxHeartbeats 4000000 in
theorem w_X3_leave_0 {E : gE} {F z0 n0 : Nat} {r : Unit} {s' : gS}   : ∀ (l0 : Option Nat) (l1 : Int32)  (s : gS), f_X3_leave_0 (gk E) F  l0 l1 s = some (r, s') → W_X3_leave E z0 n0 r s' 0 [(0, vR l0), (1, vI l1)] [] s := by
  intro l0 l1 s hB
  unfold f_X3_leave_0 at hB
  refine gw_aload_n 0 rfl dX3_leave_0 ?_
  obtain ⟨v1, hv1, hB⟩ := gB1_some hB
  refine gw_getf (C := RX3) (T := TX3) (N := 9) (k := 6) gcl7 (by decide) in_X3 q289 (gfR_spec hv1) dX3_leave_1 ?_
  refine gw_iload_n 1 rfl dX3_leave_4 ?_
  obtain ⟨u0, hu4, hB⟩ := gB1_some hB
  obtain ⟨v3, s2, hv3, hB⟩ := gB2_some hB
  refine gw_callV (y := yX7_isNew) (lw_V q2075 q2076 q2077 q144 q2078) hdV_X7_isNew gcl6 hu4 (As := [vI l1]) (rest := []) (m_X7_isNew _ _ _ _ _ hv3) (Nat.le_of_ble_eq_true rfl) (Nat.le_of_ble_eq_true rfl) rfl (Nat.le_of_ble_eq_true rfl) dX3_leave_5 (gCont_i ?_)
  refine gw_if_eq (tgt := 36) dX3_leave_8 (by decide) (fun hcnd => ?_) (fun hcnd => ?_)
  · rw [if_pos hcnd] at hB
    refine gw_aload_n 0 rfl dX3_leave_36 ?_
    obtain ⟨v5, hv5, hB⟩ := gB1_some hB
    refine gw_getf (C := RX3) (T := TX3) (N := 9) (k := 6) gcl7 (by decide) in_X3 q289 (gfR_spec hv5) dX3_leave_37 ?_
    obtain ⟨v6, hv6, hB⟩ := gB1_some hB
    refine gw_getfN (C := RX7) (T := TX7) (N := 3) (k := 1) gcl6 (by decide) in_X7 q1789 (gfR_spec hv6) dX3_leave_40 ?_
    refine gw_aload_n 0 rfl dX3_leave_43 ?_
    obtain ⟨v7, hv7, hB⟩ := gB1_some hB
    refine gw_getf (C := RX3) (T := TX3) (N := 9) (k := 2) gcl7 (by decide) in_X3 q284 (gfR_spec hv7) dX3_leave_44 ?_
    refine gw_iload_n 1 rfl dX3_leave_47 ?_
    obtain ⟨v8, hv8, hB⟩ := gB1_some hB
    refine gw_aaload hv8 dX3_leave_48 ?_
    obtain ⟨u0, hu11, hB⟩ := gB1_some hB
    obtain ⟨v10, s9, hv10, hB⟩ := gB2_some hB
    refine gw_callU (C := "java/util/LinkedHashSet") (owner := "java/util/HashSet") (x := ⟨"java/util/LinkedHashSet", "add", "(Ljava/lang/Object;)Z"⟩) (y := yJ27_add) (lw_app (lw_in (([Cond.methodLink "PageGarden$Garden" 198 ⟨"java/util/LinkedHashSet", "add", "(Ljava/lang/Object;)Z"⟩, Cond.sameMethod "java/util/LinkedHashSet" "java/util/HashSet" "add" "(Ljava/lang/Object;)Z", Cond.selects "java/util/LinkedHashSet" ⟨"java/util/LinkedHashSet", "add", "(Ljava/lang/Object;)Z"⟩ yJ27_add, Cond.instanceMethod yJ27_add, Cond.initialized "java/util/HashSet"] : List Cond)) [2122, 1951, 1953, 1954, 146] (by decide +kernel) (by decide +kernel)) (lw_meth q1955)) rfl (show _ ∧ _ ∧ _ = some 1 from by decide +kernel) gcl12 hu11 (As := [vR v8]) (rest := []) (m_J27_add _ _ _ _ _ hv10) (Nat.le_of_ble_eq_true rfl) (Nat.le_of_ble_eq_true rfl) rfl (Nat.le_of_ble_eq_true rfl) dX3_leave_49 (gCont_i ?_)
    refine gw_istore_n (L' := [(2, vI v10), (0, vR l0), (1, vI l1)]) (Nat.le_of_ble_eq_true rfl) rfl dX3_leave_52 ?_
    exact gw_sub [] rfl (w_X3_leave_53   _ hB)
  · rw [if_neg hcnd] at hB
    refine gw_aload_n 0 rfl dX3_leave_11 ?_
    obtain ⟨v12, hv12, hB⟩ := gB1_some hB
    refine gw_getf (C := RX3) (T := TX3) (N := 9) (k := 6) gcl7 (by decide) in_X3 q289 (gfR_spec hv12) dX3_leave_12 ?_
    obtain ⟨v13, hv13, hB⟩ := gB1_some hB
    refine gw_getfN (C := RX7) (T := TX7) (N := 3) (k := 0) gcl6 (by decide) in_X7 q1787 (gfR_spec hv13) dX3_leave_15 ?_
    refine gw_aload_n 0 rfl dX3_leave_18 ?_
    obtain ⟨v14, hv14, hB⟩ := gB1_some hB
    refine gw_getf (C := RX3) (T := TX3) (N := 9) (k := 2) gcl7 (by decide) in_X3 q284 (gfR_spec hv14) dX3_leave_19 ?_
    refine gw_iload_n 1 rfl dX3_leave_22 ?_
    obtain ⟨v15, hv15, hB⟩ := gB1_some hB
    refine gw_aaload hv15 dX3_leave_23 ?_
    obtain ⟨u0, hu18, hB⟩ := gB1_some hB
    obtain ⟨v17, s16, hv17, hB⟩ := gB2_some hB
    refine gw_callU (C := "java/util/LinkedHashSet") (owner := "java/util/HashSet") (x := ⟨"java/util/LinkedHashSet", "remove", "(Ljava/lang/Object;)Z"⟩) (y := yJ27_remove) (lw_app (lw_in (([Cond.methodLink "PageGarden$Garden" 210 ⟨"java/util/LinkedHashSet", "remove", "(Ljava/lang/Object;)Z"⟩, Cond.sameMethod "java/util/LinkedHashSet" "java/util/HashSet" "remove" "(Ljava/lang/Object;)Z", Cond.selects "java/util/LinkedHashSet" ⟨"java/util/LinkedHashSet", "remove", "(Ljava/lang/Object;)Z"⟩ yJ27_remove, Cond.instanceMethod yJ27_remove, Cond.initialized "java/util/HashSet"] : List Cond)) [2127, 2128, 2130, 2131, 146] (by decide +kernel) (by decide +kernel)) (lw_meth q2132)) rfl (show _ ∧ _ ∧ _ = some 1 from by decide +kernel) gcl12 hu18 (As := [vR v15]) (rest := []) (m_J27_remove _ _ _ _ _ hv17) (Nat.le_of_ble_eq_true rfl) (Nat.le_of_ble_eq_true rfl) rfl (Nat.le_of_ble_eq_true rfl) dX3_leave_24 (gCont_i ?_)
    refine gw_istore_n (L' := [(2, vI v17), (0, vR l0), (1, vI l1)]) (Nat.le_of_ble_eq_true rfl) rfl dX3_leave_27 ?_
    refine gw_aload_n 1 rfl dX3_leave_28 ?_
    refine gw_iload_n 2 rfl dX3_leave_29 ?_
    obtain ⟨u0, hu21, hB⟩ := gB1_some hB
    obtain ⟨v20, s19, hv20, hB⟩ := gB2_some hB
    refine gw_callV (y := yX3_makeWild) (lw_V q2157 q2159 qs30 q110 q2160) hdV_X3_makeWild gcl7 hu21 (As := [vI l1]) (rest := []) (m_X3_makeWild _ _ _ _ _ hv20) (Nat.le_of_ble_eq_true rfl) (Nat.le_of_ble_eq_true rfl) rfl (Nat.le_of_ble_eq_true rfl) dX3_leave_30 (gCont_v ?_)
    refine gw_goto (tgt := 53) dX3_leave_33 (by decide) ?_
    exact gw_sub [] rfl (w_X3_leave_53   _ hB)
noncomputable def f_X3_leave (κ : gK) (F : Nat) (a0 : Option Nat) (a1 : Int32) (s : gS) : Option (Unit × gS) := f_X3_leave_0 κ F a0 a1 s
theorem m_X3_leave {E : gE} {F : Nat} (a0 : Option Nat) (a1 : Int32) (s : gS) (r : Unit) (s' : gS) (h : f_X3_leave (gk E) F a0 a1 s = some (r, s')) : gCT E 7 yX3_leave (ws_ yX3_leave cX3_leave 3 none) [vR a0, vI a1] s (.inl none) s' := by
  refine gCT_of2 (fun h => absurd h (by decide)) (plainFor_of_name (by decide)) (Nat.le_of_ble_eq_true rfl) ?_
  exact gw_sub [0, 1] rfl (w_X3_leave_0 _ _ _ h)
def dkwX3_change_2 : List UInt8 := [182, 0, 234, 182, 0, 241, 182, 0, 245, 42, 21, 4, 182, 0, 238, 177]
abbrev dktX3_change_2 : List UInt8 := dkwX3_change_2 ++ []
def dkwX3_change_1 : List UInt8 := [21, 4, 182, 0, 207, 153, 0, 13, 42, 21, 4, 44, 182, 0, 190, 167, 0, 23, 42, 45, 27, 42, 44]
abbrev dktX3_change_1 : List UInt8 := dkwX3_change_1 ++ dktX3_change_2
def dkwX3_change_0 : List UInt8 := [42, 42, 180, 0, 80, 180, 0, 230, 182, 0, 123, 78, 45, 180, 0, 113, 27, 46, 54, 4, 42, 180, 0, 80]
abbrev dktX3_change_0 : List UInt8 := dkwX3_change_0 ++ dktX3_change_1
theorem dksX3_change_0 : cX3_change.data.toList.drop 0 = dktX3_change_0 := by decide +kernel
theorem dksX3_change_1 : cX3_change.data.toList.drop 24 = dktX3_change_1 := dk_seg dksX3_change_0 24 rfl rfl
theorem dksX3_change_2 : cX3_change.data.toList.drop 47 = dktX3_change_2 := dk_seg dksX3_change_1 23 rfl rfl
theorem dX3_change_0 : decode cX3_change 0 = .ok (.aload_n 0, 1) := dk_42 (dk_at dksX3_change_0 0 rfl rfl)
theorem dX3_change_1 : decode cX3_change 1 = .ok (.aload_n 0, 1) := dk_42 (dk_at dksX3_change_0 1 rfl rfl)
theorem dX3_change_2 : decode cX3_change 2 = .ok (.getfield 80, 3) := dk_180 0 80 (dk_at dksX3_change_0 2 rfl rfl)
theorem dX3_change_5 : decode cX3_change 5 = .ok (.getfield 230, 3) := dk_180 0 230 (dk_at dksX3_change_0 5 rfl rfl)
theorem dX3_change_8 : decode cX3_change 8 = .ok (.invokevirtual 123, 3) := dk_182 0 123 (dk_at dksX3_change_0 8 rfl rfl)
theorem dX3_change_11 : decode cX3_change 11 = .ok (.astore_n 3, 1) := dk_78 (dk_at dksX3_change_0 11 rfl rfl)
theorem dX3_change_12 : decode cX3_change 12 = .ok (.aload_n 3, 1) := dk_45 (dk_at dksX3_change_0 12 rfl rfl)
theorem dX3_change_13 : decode cX3_change 13 = .ok (.getfield 113, 3) := dk_180 0 113 (dk_at dksX3_change_0 13 rfl rfl)
theorem dX3_change_16 : decode cX3_change 16 = .ok (.iload_n 1, 1) := dk_27 (dk_at dksX3_change_0 16 rfl rfl)
theorem dX3_change_17 : decode cX3_change 17 = .ok (.iaload, 1) := dk_46 (dk_at dksX3_change_0 17 rfl rfl)
theorem dX3_change_18 : decode cX3_change 18 = .ok (.istore 4, 2) := dk_54 4 (dk_at dksX3_change_0 18 rfl rfl)
theorem dX3_change_20 : decode cX3_change 20 = .ok (.aload_n 0, 1) := dk_42 (dk_at dksX3_change_0 20 rfl rfl)
theorem dX3_change_21 : decode cX3_change 21 = .ok (.getfield 80, 3) := dk_180 0 80 (dk_at dksX3_change_0 21 rfl rfl)
theorem dX3_change_24 : decode cX3_change 24 = .ok (.iload 4, 2) := dk_21 4 (dk_at dksX3_change_1 0 rfl rfl)
theorem dX3_change_26 : decode cX3_change 26 = .ok (.invokevirtual 207, 3) := dk_182 0 207 (dk_at dksX3_change_1 2 rfl rfl)
theorem dX3_change_29 : decode cX3_change 29 = .ok (.ifCond .eq 13, 3) := dk_153 0 13 (dk_at dksX3_change_1 5 rfl rfl)
theorem dX3_change_32 : decode cX3_change 32 = .ok (.aload_n 0, 1) := dk_42 (dk_at dksX3_change_1 8 rfl rfl)
theorem dX3_change_33 : decode cX3_change 33 = .ok (.iload 4, 2) := dk_21 4 (dk_at dksX3_change_1 9 rfl rfl)
theorem dX3_change_35 : decode cX3_change 35 = .ok (.aload_n 2, 1) := dk_44 (dk_at dksX3_change_1 11 rfl rfl)
theorem dX3_change_36 : decode cX3_change 36 = .ok (.invokevirtual 190, 3) := dk_182 0 190 (dk_at dksX3_change_1 12 rfl rfl)
theorem dX3_change_39 : decode cX3_change 39 = .ok (.goto 23, 3) := dk_167 0 23 (dk_at dksX3_change_1 15 rfl rfl)
theorem dX3_change_42 : decode cX3_change 42 = .ok (.aload_n 0, 1) := dk_42 (dk_at dksX3_change_1 18 rfl rfl)
theorem dX3_change_43 : decode cX3_change 43 = .ok (.aload_n 3, 1) := dk_45 (dk_at dksX3_change_1 19 rfl rfl)
theorem dX3_change_44 : decode cX3_change 44 = .ok (.iload_n 1, 1) := dk_27 (dk_at dksX3_change_1 20 rfl rfl)
theorem dX3_change_45 : decode cX3_change 45 = .ok (.aload_n 0, 1) := dk_42 (dk_at dksX3_change_1 21 rfl rfl)
theorem dX3_change_46 : decode cX3_change 46 = .ok (.aload_n 2, 1) := dk_44 (dk_at dksX3_change_1 22 rfl rfl)
theorem dX3_change_47 : decode cX3_change 47 = .ok (.invokevirtual 234, 3) := dk_182 0 234 (dk_at dksX3_change_2 0 rfl rfl)
theorem dX3_change_50 : decode cX3_change 50 = .ok (.invokevirtual 241, 3) := dk_182 0 241 (dk_at dksX3_change_2 3 rfl rfl)
theorem dX3_change_53 : decode cX3_change 53 = .ok (.invokevirtual 245, 3) := dk_182 0 245 (dk_at dksX3_change_2 6 rfl rfl)
theorem dX3_change_56 : decode cX3_change 56 = .ok (.aload_n 0, 1) := dk_42 (dk_at dksX3_change_2 9 rfl rfl)
theorem dX3_change_57 : decode cX3_change 57 = .ok (.iload 4, 2) := dk_21 4 (dk_at dksX3_change_2 10 rfl rfl)
theorem dX3_change_59 : decode cX3_change 59 = .ok (.invokevirtual 238, 3) := dk_182 0 238 (dk_at dksX3_change_2 12 rfl rfl)
theorem dX3_change_62 : decode cX3_change 62 = .ok (.return_, 1) := dk_177 (dk_at dksX3_change_2 15 rfl rfl)
/-! PageGarden$Garden.change(ILPageGarden$Leaf;)V -/
abbrev M_X3_change (z0 n0 : Nat) (s' : gS) : gM := (RX3, cX3_change, 5, none, "change", [], 11, z0, n0, s'.2.1, s'.2.2)
abbrev W_X3_change (E : gE) (z0 n0 : Nat) (r : (Unit ⊕ String)) (s' : gS) (pc : Nat) (L : List (Nat × gV)) (st : List gV) (s : gS) : Prop := gW E (M_X3_change z0 n0 s') (gQm E (M_X3_change z0 n0 s') (gOv r) s') pc L st s
noncomputable def f_X3_change_62 (κ : gK) (F : Nat)   (s : gS) : Option ((Unit ⊕ String) × gS) :=
  some ((.inl ()), s)
set_option maxHeartbeats 4000000 in
theorem w_X3_change_62 {E : gE} {F z0 n0 : Nat} {r : (Unit ⊕ String)} {s' : gS}   : ∀   (s : gS), f_X3_change_62 (gk E) F   s = some (r, s') → W_X3_change E z0 n0 r s' 62 [] [] s := by
  intro  s hB
  unfold f_X3_change_62 at hB
  obtain ⟨rfl, rfl⟩ := Prod.mk.inj (Option.some.inj hB)
  exact gw_vret rfl rfl rfl dX3_change_62
noncomputable def f_X3_change_0 (κ : gK) (F : Nat)  (l0 : Option Nat) (l1 : Int32) (l2 : Option Nat) (s : gS) : Option ((Unit ⊕ String) × gS) :=
  gB1 (gfR s l0 7 6) fun v1 =>
  gB1 (gfI s v1 6 2) fun v2 =>
  gB1 (gck s l0 7) fun _ =>
  gB2 (f_X3_directory κ F l0 v2 s) fun v4 s3 =>
  gB1 (gfR s3 v4 3 0) fun v6 =>
  gB1 (gaI s3 v6 0 l1) fun v7 =>
  gB1 (gfR s3 l0 7 6) fun v8 =>
  gB1 (gck s3 v8 6) fun _ =>
  gB2 (f_X7_isNew κ F v8 v7 s3) fun v10 s9 =>
  if v10 = 0 then
    gB1 (gck s9 l0 7) fun _ =>
    gB3 (f_X3_dig κ F l0 l2 s9) fun v13 s12 =>
    gB1 (gck s12 v4 3) fun _ =>
    gB2 (f_X5_instead κ F v4 l1 v13 s12) fun v16 s15 =>
    gB1 (gck s15 l0 7) fun _ =>
    gB2 (f_X3_setDirectory κ F l0 v16 s15) fun v19 s18 =>
    gB1 (gck s18 l0 7) fun _ =>
    gB2 (f_X3_leave κ F l0 v7 s18) fun v22 s21 =>
    f_X3_change_62 κ F  s21
  else
    gB1 (gck s9 l0 7) fun _ =>
    gB2 (f_X3_lay κ F l0 v7 l2 s9) fun v25 s24 =>
    f_X3_change_62 κ F  s24
set_option maxHeartbeats 4000000 in
theorem w_X3_change_0 {E : gE} {F z0 n0 : Nat} {r : (Unit ⊕ String)} {s' : gS}   : ∀ (l0 : Option Nat) (l1 : Int32) (l2 : Option Nat)  (s : gS), f_X3_change_0 (gk E) F  l0 l1 l2 s = some (r, s') → W_X3_change E z0 n0 r s' 0 [(0, vR l0), (1, vI l1), (2, vR l2)] [] s := by
  intro l0 l1 l2 s hB
  unfold f_X3_change_0 at hB
  refine gw_aload_n 0 rfl dX3_change_0 ?_
  refine gw_aload_n 0 rfl dX3_change_1 ?_
  obtain ⟨v1, hv1, hB⟩ := gB1_some hB
  refine gw_getf (C := RX3) (T := TX3) (N := 9) (k := 6) gcl7 (by decide) in_X3 q289 (gfR_spec hv1) dX3_change_2 ?_
  obtain ⟨v2, hv2, hB⟩ := gB1_some hB
  refine gw_getfN (C := RX7) (T := TX7) (N := 3) (k := 2) gcl6 (by decide) in_X7 q1791 (gfI_spec hv2) dX3_change_5 ?_
  obtain ⟨u0, hu5, hB⟩ := gB1_some hB
  obtain ⟨v4, s3, hv4, hB⟩ := gB2_some hB
  refine gw_callV (y := yX3_directory) (lw_V q2041 q2043 qs23 q110 q2044) hdV_X3_directory gcl7 hu5 (As := [vI v2]) (rest := []) (m_X3_directory _ _ _ _ _ hv4) (Nat.le_of_ble_eq_true rfl) (Nat.le_of_ble_eq_true rfl) rfl (Nat.le_of_ble_eq_true rfl) dX3_change_8 (gCont_i ?_)
  refine gw_astore_n (L' := [(3, vR v4), (0, vR l0), (1, vI l1), (2, vR l2)]) (Nat.le_of_ble_eq_true rfl) rfl dX3_change_11 ?_
  refine gw_aload_n 0 rfl dX3_change_12 ?_
  obtain ⟨v6, hv6, hB⟩ := gB1_some hB
  refine gw_getfN (C := RX5) (T := TX5) (N := 1) (k := 0) gcl3 (by decide) in_X5 q321 (gfR_spec hv6) dX3_change_13 ?_
  refine gw_iload_n 2 rfl dX3_change_16 ?_
  obtain ⟨v7, hv7, hB⟩ := gB1_some hB
  refine gw_iaload hv7 dX3_change_17 ?_
  refine gw_istore (L' := [(4, vI v7), (3, vR v4), (0, vR l0), (1, vI l1), (2, vR l2)]) (Nat.le_of_ble_eq_true rfl) rfl dX3_change_18 ?_
  refine gw_aload_n 2 rfl dX3_change_20 ?_
  obtain ⟨v8, hv8, hB⟩ := gB1_some hB
  refine gw_getf (C := RX3) (T := TX3) (N := 9) (k := 6) gcl7 (by decide) in_X3 q289 (gfR_spec hv8) dX3_change_21 ?_
  refine gw_iload 0 rfl dX3_change_24 ?_
  obtain ⟨u0, hu11, hB⟩ := gB1_some hB
  obtain ⟨v10, s9, hv10, hB⟩ := gB2_some hB
  refine gw_callV (y := yX7_isNew) (lw_V q2075 q2076 q2077 q144 q2078) hdV_X7_isNew gcl6 hu11 (As := [vI v7]) (rest := []) (m_X7_isNew _ _ _ _ _ hv10) (Nat.le_of_ble_eq_true rfl) (Nat.le_of_ble_eq_true rfl) rfl (Nat.le_of_ble_eq_true rfl) dX3_change_26 (gCont_i ?_)
  refine gw_if_eq (tgt := 42) dX3_change_29 (by decide) (fun hcnd => ?_) (fun hcnd => ?_)
  · rw [if_pos hcnd] at hB
    refine gw_aload_n 2 rfl dX3_change_42 ?_
    refine gw_aload_n 1 rfl dX3_change_43 ?_
    refine gw_iload_n 3 rfl dX3_change_44 ?_
    refine gw_aload_n 2 rfl dX3_change_45 ?_
    refine gw_aload_n 4 rfl dX3_change_46 ?_
    obtain ⟨u0, hu14, hB⟩ := gB1_some hB
    rcases gB3_some hB with ⟨v13, s12, hv13, hB⟩ | ⟨Cv13, hv13, hzv13⟩
    rotate_left
    · subst hzv13
      exact gw_callV (y := yX3_dig) (lw_V q2114 q2116 qs28 q110 q2117) hdV_X3_dig gcl7 hu14 (As := [vR l2]) (rest := [vI l1, vR v4, vR l0]) (m_X3_dig _ _ _ _ _ hv13) (Nat.le_of_ble_eq_true rfl) (Nat.le_of_ble_eq_true rfl) rfl (Nat.le_of_ble_eq_true rfl) dX3_change_47 (gCont_x (gx_out rfl rfl rfl))
    refine gw_callV (y := yX3_dig) (lw_V q2114 q2116 qs28 q110 q2117) hdV_X3_dig gcl7 hu14 (As := [vR l2]) (rest := [vI l1, vR v4, vR l0]) (m_X3_dig _ _ _ _ _ hv13) (Nat.le_of_ble_eq_true rfl) (Nat.le_of_ble_eq_true rfl) rfl (Nat.le_of_ble_eq_true rfl) dX3_change_47 (gCont_i ?_)
    obtain ⟨u0, hu17, hB⟩ := gB1_some hB
    obtain ⟨v16, s15, hv16, hB⟩ := gB2_some hB
    refine gw_callV (y := yX5_instead) (lw_V q2206 q2207 q2208 q117 q2209) hdV_X5_instead gcl3 hu17 (As := [vI l1, vI v13]) (rest := [vR l0]) (m_X5_instead _ _ _ _ _ _ hv16) (Nat.le_of_ble_eq_true rfl) (Nat.le_of_ble_eq_true rfl) rfl (Nat.le_of_ble_eq_true rfl) dX3_change_50 (gCont_i ?_)
    obtain ⟨u0, hu20, hB⟩ := gB1_some hB
    obtain ⟨v19, s18, hv19, hB⟩ := gB2_some hB
    refine gw_callV (y := yX3_setDirectory) (lw_V q2188 q2190 qs31 q110 q2191) hdV_X3_setDirectory gcl7 hu20 (As := [vR v16]) (rest := []) (m_X3_setDirectory _ _ _ _ _ hv19) (Nat.le_of_ble_eq_true rfl) (Nat.le_of_ble_eq_true rfl) rfl (Nat.le_of_ble_eq_true rfl) dX3_change_53 (gCont_v ?_)
    refine gw_aload_n 2 rfl dX3_change_56 ?_
    refine gw_iload 0 rfl dX3_change_57 ?_
    obtain ⟨u0, hu23, hB⟩ := gB1_some hB
    obtain ⟨v22, s21, hv22, hB⟩ := gB2_some hB
    refine gw_callV (y := yX3_leave) (lw_V q2123 q2125 qs29 q110 q2126) hdV_X3_leave gcl7 hu23 (As := [vI v7]) (rest := []) (m_X3_leave _ _ _ _ _ hv22) (Nat.le_of_ble_eq_true rfl) (Nat.le_of_ble_eq_true rfl) rfl (Nat.le_of_ble_eq_true rfl) dX3_change_59 (gCont_v ?_)
    exact gw_sub [] rfl (w_X3_change_62   _ hB)
  · rw [if_neg hcnd] at hB
    refine gw_aload_n 2 rfl dX3_change_32 ?_
    refine gw_iload 0 rfl dX3_change_33 ?_
    refine gw_aload_n 4 rfl dX3_change_35 ?_
    obtain ⟨u0, hu26, hB⟩ := gB1_some hB
    obtain ⟨v25, s24, hv25, hB⟩ := gB2_some hB
    refine gw_callV (y := yX3_lay) (lw_V q2121 q327 qs0 q110 q328) hdV_X3_lay gcl7 hu26 (As := [vI v7, vR l2]) (rest := []) (m_X3_lay _ _ _ _ _ _ hv25) (Nat.le_of_ble_eq_true rfl) (Nat.le_of_ble_eq_true rfl) rfl (Nat.le_of_ble_eq_true rfl) dX3_change_36 (gCont_v ?_)
    refine gw_goto (tgt := 62) dX3_change_39 (by decide) ?_
    exact gw_sub [] rfl (w_X3_change_62   _ hB)
noncomputable def f_X3_change (κ : gK) (F : Nat) (a0 : Option Nat) (a1 : Int32) (a2 : Option Nat) (s : gS) : Option ((Unit ⊕ String) × gS) := f_X3_change_0 κ F a0 a1 a2 s
theorem m_X3_change {E : gE} {F : Nat} (a0 : Option Nat) (a1 : Int32) (a2 : Option Nat) (s : gS) (r : (Unit ⊕ String)) (s' : gS) (h : f_X3_change (gk E) F a0 a1 a2 s = some (r, s')) : gCT E 11 yX3_change (ws_ yX3_change cX3_change 5 none) [vR a0, vI a1, vR a2] s (gOv r) s' := by
  refine gCT_of2 (fun h => absurd h (by decide)) (plainFor_of_name (by decide)) (Nat.le_of_ble_eq_true rfl) ?_
  exact gw_sub [0, 1, 2] rfl (w_X3_change_0 _ _ _ _ h)
def dkwX3_valueBy_2 : List UInt8 := [180, 0, 135, 25, 4, 28, 182, 0, 138, 46, 167, 0, 6, 17, 252, 24, 172]
abbrev dktX3_valueBy_2 : List UInt8 := dkwX3_valueBy_2 ++ []
def dkwX3_valueBy_1 : List UInt8 := [45, 28, 182, 0, 127, 46, 182, 0, 116, 58, 4, 25, 4, 28, 182, 0, 131, 153, 0, 18, 25, 4]
abbrev dktX3_valueBy_1 : List UInt8 := dkwX3_valueBy_1 ++ dktX3_valueBy_2
def dkwX3_valueBy_0 : List UInt8 := [42, 27, 182, 0, 123, 78, 45, 180, 0, 113, 190, 154, 0, 7, 17, 252, 24, 172, 42, 45, 180, 0, 113, 42]
abbrev dktX3_valueBy_0 : List UInt8 := dkwX3_valueBy_0 ++ dktX3_valueBy_1
theorem dksX3_valueBy_0 : cX3_valueBy.data.toList.drop 0 = dktX3_valueBy_0 := by decide +kernel
theorem dksX3_valueBy_1 : cX3_valueBy.data.toList.drop 24 = dktX3_valueBy_1 := dk_seg dksX3_valueBy_0 24 rfl rfl
theorem dksX3_valueBy_2 : cX3_valueBy.data.toList.drop 46 = dktX3_valueBy_2 := dk_seg dksX3_valueBy_1 22 rfl rfl
theorem dX3_valueBy_0 : decode cX3_valueBy 0 = .ok (.aload_n 0, 1) := dk_42 (dk_at dksX3_valueBy_0 0 rfl rfl)
theorem dX3_valueBy_1 : decode cX3_valueBy 1 = .ok (.iload_n 1, 1) := dk_27 (dk_at dksX3_valueBy_0 1 rfl rfl)
theorem dX3_valueBy_2 : decode cX3_valueBy 2 = .ok (.invokevirtual 123, 3) := dk_182 0 123 (dk_at dksX3_valueBy_0 2 rfl rfl)
theorem dX3_valueBy_5 : decode cX3_valueBy 5 = .ok (.astore_n 3, 1) := dk_78 (dk_at dksX3_valueBy_0 5 rfl rfl)
theorem dX3_valueBy_6 : decode cX3_valueBy 6 = .ok (.aload_n 3, 1) := dk_45 (dk_at dksX3_valueBy_0 6 rfl rfl)
theorem dX3_valueBy_7 : decode cX3_valueBy 7 = .ok (.getfield 113, 3) := dk_180 0 113 (dk_at dksX3_valueBy_0 7 rfl rfl)
theorem dX3_valueBy_10 : decode cX3_valueBy 10 = .ok (.arraylength, 1) := dk_190 (dk_at dksX3_valueBy_0 10 rfl rfl)
theorem dX3_valueBy_11 : decode cX3_valueBy 11 = .ok (.ifCond .ne 7, 3) := dk_154 0 7 (dk_at dksX3_valueBy_0 11 rfl rfl)
theorem dX3_valueBy_14 : decode cX3_valueBy 14 = .ok (.sipush (-1000), 3) := dk_17 252 24 (dk_at dksX3_valueBy_0 14 rfl rfl)
theorem dX3_valueBy_17 : decode cX3_valueBy 17 = .ok (.ireturn, 1) := dk_172 (dk_at dksX3_valueBy_0 17 rfl rfl)
theorem dX3_valueBy_18 : decode cX3_valueBy 18 = .ok (.aload_n 0, 1) := dk_42 (dk_at dksX3_valueBy_0 18 rfl rfl)
theorem dX3_valueBy_19 : decode cX3_valueBy 19 = .ok (.aload_n 3, 1) := dk_45 (dk_at dksX3_valueBy_0 19 rfl rfl)
theorem dX3_valueBy_20 : decode cX3_valueBy 20 = .ok (.getfield 113, 3) := dk_180 0 113 (dk_at dksX3_valueBy_0 20 rfl rfl)
theorem dX3_valueBy_23 : decode cX3_valueBy 23 = .ok (.aload_n 0, 1) := dk_42 (dk_at dksX3_valueBy_0 23 rfl rfl)
theorem dX3_valueBy_24 : decode cX3_valueBy 24 = .ok (.aload_n 3, 1) := dk_45 (dk_at dksX3_valueBy_1 0 rfl rfl)
theorem dX3_valueBy_25 : decode cX3_valueBy 25 = .ok (.iload_n 2, 1) := dk_28 (dk_at dksX3_valueBy_1 1 rfl rfl)
theorem dX3_valueBy_26 : decode cX3_valueBy 26 = .ok (.invokevirtual 127, 3) := dk_182 0 127 (dk_at dksX3_valueBy_1 2 rfl rfl)
theorem dX3_valueBy_29 : decode cX3_valueBy 29 = .ok (.iaload, 1) := dk_46 (dk_at dksX3_valueBy_1 5 rfl rfl)
theorem dX3_valueBy_30 : decode cX3_valueBy 30 = .ok (.invokevirtual 116, 3) := dk_182 0 116 (dk_at dksX3_valueBy_1 6 rfl rfl)
theorem dX3_valueBy_33 : decode cX3_valueBy 33 = .ok (.astore 4, 2) := dk_58 4 (dk_at dksX3_valueBy_1 9 rfl rfl)
theorem dX3_valueBy_35 : decode cX3_valueBy 35 = .ok (.aload 4, 2) := dk_25 4 (dk_at dksX3_valueBy_1 11 rfl rfl)
theorem dX3_valueBy_37 : decode cX3_valueBy 37 = .ok (.iload_n 2, 1) := dk_28 (dk_at dksX3_valueBy_1 13 rfl rfl)
theorem dX3_valueBy_38 : decode cX3_valueBy 38 = .ok (.invokevirtual 131, 3) := dk_182 0 131 (dk_at dksX3_valueBy_1 14 rfl rfl)
theorem dX3_valueBy_41 : decode cX3_valueBy 41 = .ok (.ifCond .eq 18, 3) := dk_153 0 18 (dk_at dksX3_valueBy_1 17 rfl rfl)
theorem dX3_valueBy_44 : decode cX3_valueBy 44 = .ok (.aload 4, 2) := dk_25 4 (dk_at dksX3_valueBy_1 20 rfl rfl)
theorem dX3_valueBy_46 : decode cX3_valueBy 46 = .ok (.getfield 135, 3) := dk_180 0 135 (dk_at dksX3_valueBy_2 0 rfl rfl)
theorem dX3_valueBy_49 : decode cX3_valueBy 49 = .ok (.aload 4, 2) := dk_25 4 (dk_at dksX3_valueBy_2 3 rfl rfl)
theorem dX3_valueBy_51 : decode cX3_valueBy 51 = .ok (.iload_n 2, 1) := dk_28 (dk_at dksX3_valueBy_2 5 rfl rfl)
theorem dX3_valueBy_52 : decode cX3_valueBy 52 = .ok (.invokevirtual 138, 3) := dk_182 0 138 (dk_at dksX3_valueBy_2 6 rfl rfl)
theorem dX3_valueBy_55 : decode cX3_valueBy 55 = .ok (.iaload, 1) := dk_46 (dk_at dksX3_valueBy_2 9 rfl rfl)
theorem dX3_valueBy_56 : decode cX3_valueBy 56 = .ok (.goto 6, 3) := dk_167 0 6 (dk_at dksX3_valueBy_2 10 rfl rfl)
theorem dX3_valueBy_59 : decode cX3_valueBy 59 = .ok (.sipush (-1000), 3) := dk_17 252 24 (dk_at dksX3_valueBy_2 13 rfl rfl)
theorem dX3_valueBy_62 : decode cX3_valueBy 62 = .ok (.ireturn, 1) := dk_172 (dk_at dksX3_valueBy_2 16 rfl rfl)
/-! PageGarden$Garden.valueBy(II)I -/
abbrev M_X3_valueBy (z0 n0 : Nat) (s' : gS) : gM := (RX3, cX3_valueBy, 5, (some FieldType.int), "valueBy", [], 8, z0, n0, s'.2.1, s'.2.2)
abbrev W_X3_valueBy (E : gE) (z0 n0 : Nat) (r : Int32) (s' : gS) (pc : Nat) (L : List (Nat × gV)) (st : List gV) (s : gS) : Prop := gW E (M_X3_valueBy z0 n0 s') (gQm E (M_X3_valueBy z0 n0 s') (.inl (some (vI r))) s') pc L st s
noncomputable def f_X3_valueBy_62 (κ : gK) (F : Nat)  (t0 : Int32) (s : gS) : Option (Int32 × gS) :=
  some (t0, s)
set_option maxHeartbeats 4000000 in
theorem w_X3_valueBy_62 {E : gE} {F z0 n0 : Nat} {r : Int32} {s' : gS}   : ∀  (t0 : Int32) (s : gS), f_X3_valueBy_62 (gk E) F  t0 s = some (r, s') → W_X3_valueBy E z0 n0 r s' 62 [] [vI t0] s := by
  intro t0 s hB
  unfold f_X3_valueBy_62 at hB
  obtain ⟨rfl, rfl⟩ := Prod.mk.inj (Option.some.inj hB)
  exact gw_iret rfl rfl rfl dX3_valueBy_62
noncomputable def f_X3_valueBy_0 (κ : gK) (F : Nat)  (l0 : Option Nat) (l1 : Int32) (l2 : Int32) (s : gS) : Option (Int32 × gS) :=
  gB1 (gck s l0 7) fun _ =>
  gB2 (f_X3_directory κ F l0 l1 s) fun v2 s1 =>
  gB1 (gfR s1 v2 3 0) fun v4 =>
  gB1 (gal s1 v4) fun v5 =>
  if v5 = 0 then
    some ((-1000 : Int32), s1)
  else
    gB1 (gfR s1 v2 3 0) fun v6 =>
    gB1 (gck s1 l0 7) fun _ =>
    gB2 (f_X3_placeOf κ F l0 v2 l2 s1) fun v8 s7 =>
    gB1 (gaI s7 v6 0 v8) fun v10 =>
    gB1 (gck s7 l0 7) fun _ =>
    gB2 (f_X3_leaf κ F l0 v10 s7) fun v12 s11 =>
    gB1 (gck s11 v12 2) fun _ =>
    gB2 (f_X9_has κ F v12 l2 s11) fun v15 s14 =>
    if v15 = 0 then
      f_X3_valueBy_62 κ F  (-1000 : Int32) s14
    else
      gB1 (gfR s14 v12 2 1) fun v17 =>
      gB1 (gck s14 v12 2) fun _ =>
      gB2 (f_X9_placeOf κ F v12 l2 s14) fun v19 s18 =>
      gB1 (gaI s18 v17 0 v19) fun v21 =>
      f_X3_valueBy_62 κ F  v21 s18
set_option maxHeartbeats 4000000 in
theorem w_X3_valueBy_0 {E : gE} {F z0 n0 : Nat} {r : Int32} {s' : gS}   : ∀ (l0 : Option Nat) (l1 : Int32) (l2 : Int32)  (s : gS), f_X3_valueBy_0 (gk E) F  l0 l1 l2 s = some (r, s') → W_X3_valueBy E z0 n0 r s' 0 [(0, vR l0), (1, vI l1), (2, vI l2)] [] s := by
  intro l0 l1 l2 s hB
  unfold f_X3_valueBy_0 at hB
  refine gw_aload_n 0 rfl dX3_valueBy_0 ?_
  refine gw_iload_n 1 rfl dX3_valueBy_1 ?_
  obtain ⟨u0, hu3, hB⟩ := gB1_some hB
  obtain ⟨v2, s1, hv2, hB⟩ := gB2_some hB
  refine gw_callV (y := yX3_directory) (lw_V q2041 q2043 qs23 q110 q2044) hdV_X3_directory gcl7 hu3 (As := [vI l1]) (rest := []) (m_X3_directory _ _ _ _ _ hv2) (Nat.le_of_ble_eq_true rfl) (Nat.le_of_ble_eq_true rfl) rfl (Nat.le_of_ble_eq_true rfl) dX3_valueBy_2 (gCont_i ?_)
  refine gw_astore_n (L' := [(3, vR v2), (0, vR l0), (1, vI l1), (2, vI l2)]) (Nat.le_of_ble_eq_true rfl) rfl dX3_valueBy_5 ?_
  refine gw_aload_n 0 rfl dX3_valueBy_6 ?_
  obtain ⟨v4, hv4, hB⟩ := gB1_some hB
  refine gw_getfN (C := RX5) (T := TX5) (N := 1) (k := 0) gcl3 (by decide) in_X5 q321 (gfR_spec hv4) dX3_valueBy_7 ?_
  obtain ⟨v5, hv5, hB⟩ := gB1_some hB
  refine gw_alen hv5 dX3_valueBy_10 ?_
  refine gw_if_ne (tgt := 18) dX3_valueBy_11 (by decide) (fun hcnd => ?_) (fun hcnd => ?_)
  · rw [if_neg hcnd] at hB
    refine gw_aload_n 1 rfl dX3_valueBy_18 ?_
    refine gw_aload_n 0 rfl dX3_valueBy_19 ?_
    obtain ⟨v6, hv6, hB⟩ := gB1_some hB
    refine gw_getfN (C := RX5) (T := TX5) (N := 1) (k := 0) gcl3 (by decide) in_X5 q321 (gfR_spec hv6) dX3_valueBy_20 ?_
    refine gw_aload_n 1 rfl dX3_valueBy_23 ?_
    refine gw_aload_n 0 rfl dX3_valueBy_24 ?_
    refine gw_iload_n 3 rfl dX3_valueBy_25 ?_
    obtain ⟨u0, hu9, hB⟩ := gB1_some hB
    obtain ⟨v8, s7, hv8, hB⟩ := gB2_some hB
    refine gw_callV (y := yX3_placeOf) (lw_V q2053 q2055 qs25 q110 q2056) hdV_X3_placeOf gcl7 hu9 (As := [vR v2, vI l2]) (rest := [vR v6, vR l0]) (m_X3_placeOf _ _ _ _ _ _ hv8) (Nat.le_of_ble_eq_true rfl) (Nat.le_of_ble_eq_true rfl) rfl (Nat.le_of_ble_eq_true rfl) dX3_valueBy_26 (gCont_i ?_)
    obtain ⟨v10, hv10, hB⟩ := gB1_some hB
    refine gw_iaload hv10 dX3_valueBy_29 ?_
    obtain ⟨u0, hu13, hB⟩ := gB1_some hB
    obtain ⟨v12, s11, hv12, hB⟩ := gB2_some hB
    refine gw_callV (y := yX3_leaf) (lw_V q2057 q2059 qs26 q110 q2060) hdV_X3_leaf gcl7 hu13 (As := [vI v10]) (rest := []) (m_X3_leaf _ _ _ _ _ hv12) (Nat.le_of_ble_eq_true rfl) (Nat.le_of_ble_eq_true rfl) rfl (Nat.le_of_ble_eq_true rfl) dX3_valueBy_30 (gCont_i ?_)
    refine gw_astore (L' := [(4, vR v12), (3, vR v2), (0, vR l0), (1, vI l1), (2, vI l2)]) (Nat.le_of_ble_eq_true rfl) rfl dX3_valueBy_33 ?_
    refine gw_aload 0 rfl dX3_valueBy_35 ?_
    refine gw_iload_n 4 rfl dX3_valueBy_37 ?_
    obtain ⟨u0, hu16, hB⟩ := gB1_some hB
    obtain ⟨v15, s14, hv15, hB⟩ := gB2_some hB
    refine gw_callV (y := yX9_has) (lw_V q2063 q2064 q2065 q160 q2066) hdV_X9_has gcl2 hu16 (As := [vI l2]) (rest := []) (m_X9_has _ _ _ _ _ hv15) (Nat.le_of_ble_eq_true rfl) (Nat.le_of_ble_eq_true rfl) rfl (Nat.le_of_ble_eq_true rfl) dX3_valueBy_38 (gCont_i ?_)
    refine gw_if_eq (tgt := 59) dX3_valueBy_41 (by decide) (fun hcnd => ?_) (fun hcnd => ?_)
    · rw [if_pos hcnd] at hB
      refine gw_sipush (v := (-1000 : Int32)) (by decide) dX3_valueBy_59 ?_
      exact gw_sub [] rfl (w_X3_valueBy_62  _ _ hB)
    · rw [if_neg hcnd] at hB
      refine gw_aload 0 rfl dX3_valueBy_44 ?_
      obtain ⟨v17, hv17, hB⟩ := gB1_some hB
      refine gw_getfN (C := RX9) (T := TX9) (N := 2) (k := 1) gcl2 (by decide) in_X9 q2173 (gfR_spec hv17) dX3_valueBy_46 ?_
      refine gw_aload 0 rfl dX3_valueBy_49 ?_
      refine gw_iload_n 4 rfl dX3_valueBy_51 ?_
      obtain ⟨u0, hu20, hB⟩ := gB1_some hB
      obtain ⟨v19, s18, hv19, hB⟩ := gB2_some hB
      refine gw_callV (y := yX9_placeOf) (lw_V q2109 q2068 q2069 q160 q2070) hdV_X9_placeOf gcl2 hu20 (As := [vI l2]) (rest := [vR v17]) (m_X9_placeOf _ _ _ _ _ hv19) (Nat.le_of_ble_eq_true rfl) (Nat.le_of_ble_eq_true rfl) rfl (Nat.le_of_ble_eq_true rfl) dX3_valueBy_52 (gCont_i ?_)
      obtain ⟨v21, hv21, hB⟩ := gB1_some hB
      refine gw_iaload hv21 dX3_valueBy_55 ?_
      refine gw_goto (tgt := 62) dX3_valueBy_56 (by decide) ?_
      exact gw_sub [] rfl (w_X3_valueBy_62  _ _ hB)
  · rw [if_pos hcnd] at hB
    refine gw_sipush (v := (-1000 : Int32)) (by decide) dX3_valueBy_14 ?_
    obtain ⟨rfl, rfl⟩ := Prod.mk.inj (Option.some.inj hB)
    exact gw_iret rfl rfl rfl dX3_valueBy_17
noncomputable def f_X3_valueBy (κ : gK) (F : Nat) (a0 : Option Nat) (a1 : Int32) (a2 : Int32) (s : gS) : Option (Int32 × gS) := f_X3_valueBy_0 κ F a0 a1 a2 s
theorem m_X3_valueBy {E : gE} {F : Nat} (a0 : Option Nat) (a1 : Int32) (a2 : Int32) (s : gS) (r : Int32) (s' : gS) (h : f_X3_valueBy (gk E) F a0 a1 a2 s = some (r, s')) : gCT E 8 yX3_valueBy (ws_ yX3_valueBy cX3_valueBy 5 (some FieldType.int)) [vR a0, vI a1, vI a2] s (.inl (some (vI r))) s' := by
  refine gCT_of2 (fun h => absurd h (by decide)) (plainFor_of_name (by decide)) (Nat.le_of_ble_eq_true rfl) ?_
  exact gw_sub [0, 1, 2] rfl (w_X3_valueBy_0 _ _ _ _ h)
def dkwX3_lambda_changedSince_0_0 : List UInt8 := [42, 27, 28, 182, 0, 231, 172]
abbrev dktX3_lambda_changedSince_0_0 : List UInt8 := dkwX3_lambda_changedSince_0_0 ++ []
theorem dksX3_lambda_changedSince_0_0 : cX3_lambda_changedSince_0.data.toList.drop 0 = dktX3_lambda_changedSince_0_0 := by decide +kernel
theorem dX3_lambda_changedSince_0_0 : decode cX3_lambda_changedSince_0 0 = .ok (.aload_n 0, 1) := dk_42 (dk_at dksX3_lambda_changedSince_0_0 0 rfl rfl)
theorem dX3_lambda_changedSince_0_1 : decode cX3_lambda_changedSince_0 1 = .ok (.iload_n 1, 1) := dk_27 (dk_at dksX3_lambda_changedSince_0_0 1 rfl rfl)
theorem dX3_lambda_changedSince_0_2 : decode cX3_lambda_changedSince_0 2 = .ok (.iload_n 2, 1) := dk_28 (dk_at dksX3_lambda_changedSince_0_0 2 rfl rfl)
theorem dX3_lambda_changedSince_0_3 : decode cX3_lambda_changedSince_0 3 = .ok (.invokevirtual 231, 3) := dk_182 0 231 (dk_at dksX3_lambda_changedSince_0_0 3 rfl rfl)
theorem dX3_lambda_changedSince_0_6 : decode cX3_lambda_changedSince_0 6 = .ok (.ireturn, 1) := dk_172 (dk_at dksX3_lambda_changedSince_0_0 6 rfl rfl)
/-! PageGarden$Garden.lambda$changedSince$0(II)I -/
abbrev M_X3_lambda_changedSince_0 (z0 n0 : Nat) (s' : gS) : gM := (RX3, cX3_lambda_changedSince_0, 3, (some FieldType.int), "lambda$changedSince$0", [], 9, z0, n0, s'.2.1, s'.2.2)
abbrev W_X3_lambda_changedSince_0 (E : gE) (z0 n0 : Nat) (r : Int32) (s' : gS) (pc : Nat) (L : List (Nat × gV)) (st : List gV) (s : gS) : Prop := gW E (M_X3_lambda_changedSince_0 z0 n0 s') (gQm E (M_X3_lambda_changedSince_0 z0 n0 s') (.inl (some (vI r))) s') pc L st s
noncomputable def f_X3_lambda_changedSince_0_0 (κ : gK) (F : Nat)  (l0 : Option Nat) (l1 : Int32) (l2 : Int32) (s : gS) : Option (Int32 × gS) :=
  gB1 (gck s l0 7) fun _ =>
  gB2 (f_X3_valueBy κ F l0 l1 l2 s) fun v2 s1 =>
  some (v2, s1)
set_option maxHeartbeats 4000000 in
theorem w_X3_lambda_changedSince_0_0 {E : gE} {F z0 n0 : Nat} {r : Int32} {s' : gS}   : ∀ (l0 : Option Nat) (l1 : Int32) (l2 : Int32)  (s : gS), f_X3_lambda_changedSince_0_0 (gk E) F  l0 l1 l2 s = some (r, s') → W_X3_lambda_changedSince_0 E z0 n0 r s' 0 [(0, vR l0), (1, vI l1), (2, vI l2)] [] s := by
  intro l0 l1 l2 s hB
  unfold f_X3_lambda_changedSince_0_0 at hB
  refine gw_aload_n 0 rfl dX3_lambda_changedSince_0_0 ?_
  refine gw_iload_n 1 rfl dX3_lambda_changedSince_0_1 ?_
  refine gw_iload_n 2 rfl dX3_lambda_changedSince_0_2 ?_
  obtain ⟨u0, hu3, hB⟩ := gB1_some hB
  obtain ⟨v2, s1, hv2, hB⟩ := gB2_some hB
  refine gw_callV (y := yX3_valueBy) (lw_V q2105 q2106 q2107 q110 q2108) hdV_X3_valueBy gcl7 hu3 (As := [vI l1, vI l2]) (rest := []) (m_X3_valueBy _ _ _ _ _ _ hv2) (Nat.le_of_ble_eq_true rfl) (Nat.le_of_ble_eq_true rfl) rfl (Nat.le_of_ble_eq_true rfl) dX3_lambda_changedSince_0_3 (gCont_i ?_)
  obtain ⟨rfl, rfl⟩ := Prod.mk.inj (Option.some.inj hB)
  exact gw_iret rfl rfl rfl dX3_lambda_changedSince_0_6
noncomputable def f_X3_lambda_changedSince_0 (κ : gK) (F : Nat) (a0 : Option Nat) (a1 : Int32) (a2 : Int32) (s : gS) : Option (Int32 × gS) := f_X3_lambda_changedSince_0_0 κ F a0 a1 a2 s
theorem m_X3_lambda_changedSince_0 {E : gE} {F : Nat} (a0 : Option Nat) (a1 : Int32) (a2 : Int32) (s : gS) (r : Int32) (s' : gS) (h : f_X3_lambda_changedSince_0 (gk E) F a0 a1 a2 s = some (r, s')) : gCT E 9 yX3_lambda_changedSince_0 (ws_ yX3_lambda_changedSince_0 cX3_lambda_changedSince_0 3 (some FieldType.int)) [vR a0, vI a1, vI a2] s (.inl (some (vI r))) s' := by
  refine gCT_of2 (fun h => absurd h (by decide)) (plainFor_of_name (by decide)) (Nat.le_of_ble_eq_true rfl) ?_
  exact gw_sub [0, 1, 2] rfl (w_X3_lambda_changedSince_0_0 _ _ _ _ h)
def dkwX3_get_0 : List UInt8 := [42, 42, 182, 0, 155, 180, 0, 223, 27, 182, 0, 231, 172]
abbrev dktX3_get_0 : List UInt8 := dkwX3_get_0 ++ []
theorem dksX3_get_0 : cX3_get.data.toList.drop 0 = dktX3_get_0 := by decide +kernel
theorem dX3_get_0 : decode cX3_get 0 = .ok (.aload_n 0, 1) := dk_42 (dk_at dksX3_get_0 0 rfl rfl)
theorem dX3_get_1 : decode cX3_get 1 = .ok (.aload_n 0, 1) := dk_42 (dk_at dksX3_get_0 1 rfl rfl)
theorem dX3_get_2 : decode cX3_get 2 = .ok (.invokevirtual 155, 3) := dk_182 0 155 (dk_at dksX3_get_0 2 rfl rfl)
theorem dX3_get_5 : decode cX3_get 5 = .ok (.getfield 223, 3) := dk_180 0 223 (dk_at dksX3_get_0 5 rfl rfl)
theorem dX3_get_8 : decode cX3_get 8 = .ok (.iload_n 1, 1) := dk_27 (dk_at dksX3_get_0 8 rfl rfl)
theorem dX3_get_9 : decode cX3_get 9 = .ok (.invokevirtual 231, 3) := dk_182 0 231 (dk_at dksX3_get_0 9 rfl rfl)
theorem dX3_get_12 : decode cX3_get 12 = .ok (.ireturn, 1) := dk_172 (dk_at dksX3_get_0 12 rfl rfl)
/-! PageGarden$Garden.get(I)I -/
abbrev M_X3_get (z0 n0 : Nat) (s' : gS) : gM := (RX3, cX3_get, 2, (some FieldType.int), "get", [], 9, z0, n0, s'.2.1, s'.2.2)
abbrev W_X3_get (E : gE) (z0 n0 : Nat) (r : Int32) (s' : gS) (pc : Nat) (L : List (Nat × gV)) (st : List gV) (s : gS) : Prop := gW E (M_X3_get z0 n0 s') (gQm E (M_X3_get z0 n0 s') (.inl (some (vI r))) s') pc L st s
noncomputable def f_X3_get_0 (κ : gK) (F : Nat)  (l0 : Option Nat) (l1 : Int32) (s : gS) : Option (Int32 × gS) :=
  gB1 (gck s l0 7) fun _ =>
  gB2 (f_X3_now κ F l0  s) fun v2 s1 =>
  gB1 (gfI s1 v2 4 1) fun v4 =>
  gB1 (gck s1 l0 7) fun _ =>
  gB2 (f_X3_valueBy κ F l0 v4 l1 s1) fun v6 s5 =>
  some (v6, s5)
set_option maxHeartbeats 4000000 in
theorem w_X3_get_0 {E : gE} {F z0 n0 : Nat} {r : Int32} {s' : gS}   : ∀ (l0 : Option Nat) (l1 : Int32)  (s : gS), f_X3_get_0 (gk E) F  l0 l1 s = some (r, s') → W_X3_get E z0 n0 r s' 0 [(0, vR l0), (1, vI l1)] [] s := by
  intro l0 l1 s hB
  unfold f_X3_get_0 at hB
  refine gw_aload_n 0 rfl dX3_get_0 ?_
  refine gw_aload_n 0 rfl dX3_get_1 ?_
  obtain ⟨u0, hu3, hB⟩ := gB1_some hB
  obtain ⟨v2, s1, hv2, hB⟩ := gB2_some hB
  refine gw_callV (y := yX3_now) (lw_V q1302 q1303 q1304 q110 q1305) hdV_X3_now gcl7 hu3 (As := []) (rest := [vR l0]) (m_X3_now _ _ _ _ hv2) (Nat.le_of_ble_eq_true rfl) (Nat.le_of_ble_eq_true rfl) rfl (Nat.le_of_ble_eq_true rfl) dX3_get_2 (gCont_i ?_)
  obtain ⟨v4, hv4, hB⟩ := gB1_some hB
  refine gw_getfN (C := RX4) (T := TX4) (N := 3) (k := 1) gcl4 (by decide) in_X4 q201 (gfI_spec hv4) dX3_get_5 ?_
  refine gw_iload_n 1 rfl dX3_get_8 ?_
  obtain ⟨u0, hu7, hB⟩ := gB1_some hB
  obtain ⟨v6, s5, hv6, hB⟩ := gB2_some hB
  refine gw_callV (y := yX3_valueBy) (lw_V q2105 q2106 q2107 q110 q2108) hdV_X3_valueBy gcl7 hu7 (As := [vI v4, vI l1]) (rest := []) (m_X3_valueBy _ _ _ _ _ _ hv6) (Nat.le_of_ble_eq_true rfl) (Nat.le_of_ble_eq_true rfl) rfl (Nat.le_of_ble_eq_true rfl) dX3_get_9 (gCont_i ?_)
  obtain ⟨rfl, rfl⟩ := Prod.mk.inj (Option.some.inj hB)
  exact gw_iret rfl rfl rfl dX3_get_12
noncomputable def f_X3_get (κ : gK) (F : Nat) (a0 : Option Nat) (a1 : Int32) (s : gS) : Option (Int32 × gS) := f_X3_get_0 κ F a0 a1 s
theorem m_X3_get {E : gE} {F : Nat} (a0 : Option Nat) (a1 : Int32) (s : gS) (r : Int32) (s' : gS) (h : f_X3_get (gk E) F a0 a1 s = some (r, s')) : gCT E 9 yX3_get (ws_ yX3_get cX3_get 2 (some FieldType.int)) [vR a0, vI a1] s (.inl (some (vI r))) s' := by
  refine gCT_of2 (fun h => absurd h (by decide)) (plainFor_of_name (by decide)) (Nat.le_of_ble_eq_true rfl) ?_
  exact gw_sub [0, 1] rfl (w_X3_get_0 _ _ _ h)
def dkwX3_lambda_changedSince_1_0 : List UInt8 := [42, 27, 182, 1, 148, 172]
abbrev dktX3_lambda_changedSince_1_0 : List UInt8 := dkwX3_lambda_changedSince_1_0 ++ []
theorem dksX3_lambda_changedSince_1_0 : cX3_lambda_changedSince_1.data.toList.drop 0 = dktX3_lambda_changedSince_1_0 := by decide +kernel
theorem dX3_lambda_changedSince_1_0 : decode cX3_lambda_changedSince_1 0 = .ok (.aload_n 0, 1) := dk_42 (dk_at dksX3_lambda_changedSince_1_0 0 rfl rfl)
theorem dX3_lambda_changedSince_1_1 : decode cX3_lambda_changedSince_1 1 = .ok (.iload_n 1, 1) := dk_27 (dk_at dksX3_lambda_changedSince_1_0 1 rfl rfl)
theorem dX3_lambda_changedSince_1_2 : decode cX3_lambda_changedSince_1 2 = .ok (.invokevirtual 404, 3) := dk_182 1 148 (dk_at dksX3_lambda_changedSince_1_0 2 rfl rfl)
theorem dX3_lambda_changedSince_1_5 : decode cX3_lambda_changedSince_1 5 = .ok (.ireturn, 1) := dk_172 (dk_at dksX3_lambda_changedSince_1_0 5 rfl rfl)
/-! PageGarden$Garden.lambda$changedSince$1(I)I -/
abbrev M_X3_lambda_changedSince_1 (z0 n0 : Nat) (s' : gS) : gM := (RX3, cX3_lambda_changedSince_1, 2, (some FieldType.int), "lambda$changedSince$1", [], 10, z0, n0, s'.2.1, s'.2.2)
abbrev W_X3_lambda_changedSince_1 (E : gE) (z0 n0 : Nat) (r : Int32) (s' : gS) (pc : Nat) (L : List (Nat × gV)) (st : List gV) (s : gS) : Prop := gW E (M_X3_lambda_changedSince_1 z0 n0 s') (gQm E (M_X3_lambda_changedSince_1 z0 n0 s') (.inl (some (vI r))) s') pc L st s
noncomputable def f_X3_lambda_changedSince_1_0 (κ : gK) (F : Nat)  (l0 : Option Nat) (l1 : Int32) (s : gS) : Option (Int32 × gS) :=
  gB1 (gck s l0 7) fun _ =>
  gB2 (f_X3_get κ F l0 l1 s) fun v2 s1 =>
  some (v2, s1)
set_option maxHeartbeats 4000000 in
theorem w_X3_lambda_changedSince_1_0 {E : gE} {F z0 n0 : Nat} {r : Int32} {s' : gS}   : ∀ (l0 : Option Nat) (l1 : Int32)  (s : gS), f_X3_lambda_changedSince_1_0 (gk E) F  l0 l1 s = some (r, s') → W_X3_lambda_changedSince_1 E z0 n0 r s' 0 [(0, vR l0), (1, vI l1)] [] s := by
  intro l0 l1 s hB
  unfold f_X3_lambda_changedSince_1_0 at hB
  refine gw_aload_n 0 rfl dX3_lambda_changedSince_1_0 ?_
  refine gw_iload_n 1 rfl dX3_lambda_changedSince_1_1 ?_
  obtain ⟨u0, hu3, hB⟩ := gB1_some hB
  obtain ⟨v2, s1, hv2, hB⟩ := gB2_some hB
  refine gw_callV (y := yX3_get) (lw_V q2661 q2555 q2556 q110 q2557) hdV_X3_get gcl7 hu3 (As := [vI l1]) (rest := []) (m_X3_get _ _ _ _ _ hv2) (Nat.le_of_ble_eq_true rfl) (Nat.le_of_ble_eq_true rfl) rfl (Nat.le_of_ble_eq_true rfl) dX3_lambda_changedSince_1_2 (gCont_i ?_)
  obtain ⟨rfl, rfl⟩ := Prod.mk.inj (Option.some.inj hB)
  exact gw_iret rfl rfl rfl dX3_lambda_changedSince_1_5
noncomputable def f_X3_lambda_changedSince_1 (κ : gK) (F : Nat) (a0 : Option Nat) (a1 : Int32) (s : gS) : Option (Int32 × gS) := f_X3_lambda_changedSince_1_0 κ F a0 a1 s
theorem m_X3_lambda_changedSince_1 {E : gE} {F : Nat} (a0 : Option Nat) (a1 : Int32) (s : gS) (r : Int32) (s' : gS) (h : f_X3_lambda_changedSince_1 (gk E) F a0 a1 s = some (r, s')) : gCT E 10 yX3_lambda_changedSince_1 (ws_ yX3_lambda_changedSince_1 cX3_lambda_changedSince_1 2 (some FieldType.int)) [vR a0, vI a1] s (.inl (some (vI r))) s' := by
  refine gCT_of2 (fun h => absurd h (by decide)) (plainFor_of_name (by decide)) (Nat.le_of_ble_eq_true rfl) ?_
  exact gw_sub [0, 1] rfl (w_X3_lambda_changedSince_1_0 _ _ _ h)
noncomputable def f_of (κ : gK) (F : Nat) (r : Option Nat) (key : Int32) (s : gS) : Option (Int32 × gS) := match r with
  | none => none
  | some f => match s.1 f with
    | some (.inr (100, [.ref g, .int d])) => gB1 (gck s (some g) 7) fun _ => f_X3_lambda_changedSince_0 κ F (some g) d key s
    | some (.inr (101, [.ref g])) => gB1 (gck s (some g) 7) fun _ => f_X3_lambda_changedSince_1 κ F (some g) key s
    | _ => none
theorem gf_of {E : gE} {M : gM} {Q : gQ} {pc : Nat} {L : List (Nat × gV)} {st : List gV} {σ σ1 : gS} {F cnt : Nat} {r : Option Nat} {key v : Int32} (how : gm_own M = "PageGarden$Keys") (hdp : 10 + 2 ≤ gm_d M) (hrest : gSum st ≤ 8) (h : f_of (gk E) F r key σ = some (v, σ1)) (hd : decode (gm_cc M) pc = .ok (.invokeinterface 9 cnt, 5)) (kk : gW E M Q (pc + 5) L (vI v :: st) σ1) : gW E M Q pc L (vI key :: vR r :: st) σ := by
  unfold f_of at h
  cases r with
  | none => cases h
  | some f =>
    simp only at h
    split at h
    · rename_i g d hcell
      obtain ⟨u, hck, h⟩ := gB1_some h
      exact lb_core (li := 100) (qpc := 9) (mi := 27) (ci := 23) (nt := 26) (sn := 22) (d' := 9) (sh := lsh0) (code := lb_c0) (y := yX3_lambda_changedSince_0) (key := key) (v := v) (caps := [vI d]) how (fun hE => ⟨12, 393, hE.2.2.2.2.2.2.2.2.2.2.2.2.2.1⟩) lb_h0 (by decide +kernel) hcell rfl q2666 q2668 q2667 (lw_t q3200) q2656 qs45 q110 (lw_meth q2657) (show _ = some 2 from by decide +kernel) lb_m0 lb_k0 hck ⟨_, _, gcl7⟩ (m_X3_lambda_changedSince_0 _ _ _ _ _ _ h) (Nat.le_trans (Nat.le_of_ble_eq_true rfl) hdp) (Nat.le_of_ble_eq_true rfl) hrest hd lb_a9 lb_a12 lb_w0 kk
    · rename_i g hcell
      obtain ⟨u, hck, h⟩ := gB1_some h
      exact lb_core (li := 101) (qpc := 5) (mi := 22) (ci := 19) (nt := 21) (sn := 18) (d' := 10) (sh := lsh1) (code := lb_c1) (y := yX3_lambda_changedSince_1) (key := key) (v := v) (caps := []) how (fun hE => ⟨18, 397, hE.2.2.2.2.2.2.2.2.2.2.2.2.2.2⟩) lb_h1 (by decide +kernel) hcell rfl q2666 q2668 q2667 (lw_t q3200) q2659 qs46 q110 (lw_meth q2660) (show _ = some 1 from by decide +kernel) lb_m1 lb_k1 hck ⟨_, _, gcl7⟩ (m_X3_lambda_changedSince_1 _ _ _ _ _ h) (Nat.le_trans (Nat.le_of_ble_eq_true rfl) hdp) (Nat.le_of_ble_eq_true rfl) hrest hd lb_b5 lb_b8 lb_w1 kk
    · cases h
def dkwX8_unlike_1 : List UInt8 := [185, 0, 9, 2, 0, 160, 0, 7, 3, 167, 0, 4, 4, 96, 61, 132, 3, 1, 167, 255, 222, 28, 172]
abbrev dktX8_unlike_1 : List UInt8 := dkwX8_unlike_1 ++ []
def dkwX8_unlike_0 : List UInt8 := [3, 61, 3, 62, 29, 16, 100, 162, 0, 34, 28, 42, 29, 185, 0, 9, 2, 0, 43, 29]
abbrev dktX8_unlike_0 : List UInt8 := dkwX8_unlike_0 ++ dktX8_unlike_1
theorem dksX8_unlike_0 : cX8_unlike.data.toList.drop 0 = dktX8_unlike_0 := by decide +kernel
theorem dksX8_unlike_1 : cX8_unlike.data.toList.drop 20 = dktX8_unlike_1 := dk_seg dksX8_unlike_0 20 rfl rfl
theorem dX8_unlike_0 : decode cX8_unlike 0 = .ok (.iconst 0, 1) := dk_3 (dk_at dksX8_unlike_0 0 rfl rfl)
theorem dX8_unlike_1 : decode cX8_unlike 1 = .ok (.istore_n 2, 1) := dk_61 (dk_at dksX8_unlike_0 1 rfl rfl)
theorem dX8_unlike_2 : decode cX8_unlike 2 = .ok (.iconst 0, 1) := dk_3 (dk_at dksX8_unlike_0 2 rfl rfl)
theorem dX8_unlike_3 : decode cX8_unlike 3 = .ok (.istore_n 3, 1) := dk_62 (dk_at dksX8_unlike_0 3 rfl rfl)
theorem dX8_unlike_4 : decode cX8_unlike 4 = .ok (.iload_n 3, 1) := dk_29 (dk_at dksX8_unlike_0 4 rfl rfl)
theorem dX8_unlike_5 : decode cX8_unlike 5 = .ok (.bipush 100, 2) := dk_16 100 (dk_at dksX8_unlike_0 5 rfl rfl)
theorem dX8_unlike_7 : decode cX8_unlike 7 = .ok (.if_icmp .ge 34, 3) := dk_162 0 34 (dk_at dksX8_unlike_0 7 rfl rfl)
theorem dX8_unlike_10 : decode cX8_unlike 10 = .ok (.iload_n 2, 1) := dk_28 (dk_at dksX8_unlike_0 10 rfl rfl)
theorem dX8_unlike_11 : decode cX8_unlike 11 = .ok (.aload_n 0, 1) := dk_42 (dk_at dksX8_unlike_0 11 rfl rfl)
theorem dX8_unlike_12 : decode cX8_unlike 12 = .ok (.iload_n 3, 1) := dk_29 (dk_at dksX8_unlike_0 12 rfl rfl)
theorem dX8_unlike_13 : decode cX8_unlike 13 = .ok (.invokeinterface 9 2, 5) := by decide +kernel
theorem dX8_unlike_18 : decode cX8_unlike 18 = .ok (.aload_n 1, 1) := dk_43 (dk_at dksX8_unlike_0 18 rfl rfl)
theorem dX8_unlike_19 : decode cX8_unlike 19 = .ok (.iload_n 3, 1) := dk_29 (dk_at dksX8_unlike_0 19 rfl rfl)
theorem dX8_unlike_20 : decode cX8_unlike 20 = .ok (.invokeinterface 9 2, 5) := by decide +kernel
theorem dX8_unlike_25 : decode cX8_unlike 25 = .ok (.if_icmp .ne 7, 3) := dk_160 0 7 (dk_at dksX8_unlike_1 5 rfl rfl)
theorem dX8_unlike_28 : decode cX8_unlike 28 = .ok (.iconst 0, 1) := dk_3 (dk_at dksX8_unlike_1 8 rfl rfl)
theorem dX8_unlike_29 : decode cX8_unlike 29 = .ok (.goto 4, 3) := dk_167 0 4 (dk_at dksX8_unlike_1 9 rfl rfl)
theorem dX8_unlike_32 : decode cX8_unlike 32 = .ok (.iconst 1, 1) := dk_4 (dk_at dksX8_unlike_1 12 rfl rfl)
theorem dX8_unlike_33 : decode cX8_unlike 33 = .ok (.iadd, 1) := dk_96 (dk_at dksX8_unlike_1 13 rfl rfl)
theorem dX8_unlike_34 : decode cX8_unlike 34 = .ok (.istore_n 2, 1) := dk_61 (dk_at dksX8_unlike_1 14 rfl rfl)
theorem dX8_unlike_35 : decode cX8_unlike 35 = .ok (.iinc 3 1, 3) := dk_132 3 1 (dk_at dksX8_unlike_1 15 rfl rfl)
theorem dX8_unlike_38 : decode cX8_unlike 38 = .ok (.goto (-34), 3) := dk_167 255 222 (dk_at dksX8_unlike_1 18 rfl rfl)
theorem dX8_unlike_41 : decode cX8_unlike 41 = .ok (.iload_n 2, 1) := dk_28 (dk_at dksX8_unlike_1 21 rfl rfl)
theorem dX8_unlike_42 : decode cX8_unlike 42 = .ok (.ireturn, 1) := dk_172 (dk_at dksX8_unlike_1 22 rfl rfl)
/-! PageGarden$Keys.unlike(LPageGarden$Lookup;LPageGarden$Lookup;)I -/
abbrev M_X8_unlike (z0 n0 : Nat) (s' : gS) : gM := (RX8, cX8_unlike, 4, (some FieldType.int), "unlike", [], 12, z0, n0, s'.2.1, s'.2.2)
abbrev W_X8_unlike (E : gE) (z0 n0 : Nat) (r : Int32) (s' : gS) (pc : Nat) (L : List (Nat × gV)) (st : List gV) (s : gS) : Prop := gW E (M_X8_unlike z0 n0 s') (gQm E (M_X8_unlike z0 n0 s') (.inl (some (vI r))) s') pc L st s
noncomputable def f_X8_unlike_33 (κ : gK) (F : Nat) (k4 : Option Nat → Option Nat → Int32 → Int32 → gS → Option (Int32 × gS)) (l0 : Option Nat) (l1 : Option Nat) (l3 : Int32) (t0 : Int32) (t1 : Int32) (s : gS) : Option (Int32 × gS) :=
  k4 l0 l1 (t0 + t1) (l3 + (1 : Int32)) s
set_option maxHeartbeats 4000000 in
theorem w_X8_unlike_33 {E : gE} {F z0 n0 : Nat} {r : Int32} {s' : gS} {k4 : Option Nat → Option Nat → Int32 → Int32 → gS → Option (Int32 × gS)} (hk4 : ∀ (l0 : Option Nat) (l1 : Option Nat) (l2 : Int32) (l3 : Int32) (s : gS), k4 l0 l1 l2 l3 s = some (r, s') → W_X8_unlike E z0 n0 r s' 4 [(0, vR l0), (1, vR l1), (2, vI l2), (3, vI l3)] [] s) : ∀ (l0 : Option Nat) (l1 : Option Nat) (l3 : Int32) (t0 : Int32) (t1 : Int32) (s : gS), f_X8_unlike_33 (gk E) F k4 l0 l1 l3 t0 t1 s = some (r, s') → W_X8_unlike E z0 n0 r s' 33 [(0, vR l0), (1, vR l1), (3, vI l3)] [vI t1, vI t0] s := by
  intro l0 l1 l3 t0 t1 s hB
  unfold f_X8_unlike_33 at hB
  refine gw_iadd dX8_unlike_33 ?_
  refine gw_istore_n (L' := [(2, vI (t0 + t1)), (0, vR l0), (1, vR l1), (3, vI l3)]) (Nat.le_of_ble_eq_true rfl) rfl dX8_unlike_34 ?_
  refine gw_iinc (w := (1 : Int32)) (L' := [(3, vI (l3 + (1 : Int32))), (2, vI (t0 + t1)), (0, vR l0), (1, vR l1)]) 3 rfl (by decide) (Nat.le_of_ble_eq_true rfl) rfl dX8_unlike_35 ?_
  refine gw_goto (tgt := 4) dX8_unlike_38 (by decide) ?_
  exact gw_sub [2, 3, 1, 0] rfl (hk4 _ _ _ _ _ hB)
noncomputable def f_X8_unlike_4b (κ : gK) (F : Nat) (k4 : Option Nat → Option Nat → Int32 → Int32 → gS → Option (Int32 × gS)) (l0 : Option Nat) (l1 : Option Nat) (l2 : Int32) (l3 : Int32) (s : gS) : Option (Int32 × gS) :=
  if (100 : Int32) ≤ l3 then
    some (l2, s)
  else
    gB2 (f_of κ F l0 l3 s) fun v1 s2 =>
    gB2 (f_of κ F l1 l3 s2) fun v3 s4 =>
    if v1 = v3 then
      f_X8_unlike_33 κ F k4 l0 l1 l3 l2 (0 : Int32) s4
    else
      f_X8_unlike_33 κ F k4 l0 l1 l3 l2 (1 : Int32) s4
noncomputable def f_X8_unlike_4 (κ : gK) (F : Nat)  : Nat → Option Nat → Option Nat → Int32 → Int32 → gS → Option (Int32 × gS)
  | 0 => fun _ _ _ _ _ => none
  | n + 1 => f_X8_unlike_4b κ F  (f_X8_unlike_4 κ F  n)
set_option maxHeartbeats 4000000 in
theorem w_X8_unlike_4b {E : gE} {F z0 n0 : Nat} {r : Int32} {s' : gS} {k4 : Option Nat → Option Nat → Int32 → Int32 → gS → Option (Int32 × gS)} (hk4 : ∀ (l0 : Option Nat) (l1 : Option Nat) (l2 : Int32) (l3 : Int32) (s : gS), k4 l0 l1 l2 l3 s = some (r, s') → W_X8_unlike E z0 n0 r s' 4 [(0, vR l0), (1, vR l1), (2, vI l2), (3, vI l3)] [] s) : ∀ (l0 : Option Nat) (l1 : Option Nat) (l2 : Int32) (l3 : Int32)  (s : gS), f_X8_unlike_4b (gk E) F k4 l0 l1 l2 l3 s = some (r, s') → W_X8_unlike E z0 n0 r s' 4 [(0, vR l0), (1, vR l1), (2, vI l2), (3, vI l3)] [] s := by
  intro l0 l1 l2 l3 s hB
  unfold f_X8_unlike_4b at hB
  refine gw_iload_n 3 rfl dX8_unlike_4 ?_
  refine gw_bipush (v := (100 : Int32)) (by decide) dX8_unlike_5 ?_
  refine gw_icmp_ge (tgt := 41) dX8_unlike_7 (by decide) (fun hcnd => ?_) (fun hcnd => ?_)
  · rw [if_pos hcnd] at hB
    refine gw_iload_n 2 rfl dX8_unlike_41 ?_
    obtain ⟨rfl, rfl⟩ := Prod.mk.inj (Option.some.inj hB)
    exact gw_iret rfl rfl rfl dX8_unlike_42
  · rw [if_neg hcnd] at hB
    refine gw_iload_n 2 rfl dX8_unlike_10 ?_
    refine gw_aload_n 0 rfl dX8_unlike_11 ?_
    refine gw_iload_n 3 rfl dX8_unlike_12 ?_
    obtain ⟨v1, s2, hv1, hB⟩ := gB2_some hB
    refine gf_of rfl (Nat.le_of_ble_eq_true rfl) (Nat.le_of_ble_eq_true rfl) hv1 dX8_unlike_13 ?_
    refine gw_aload_n 1 rfl dX8_unlike_18 ?_
    refine gw_iload_n 3 rfl dX8_unlike_19 ?_
    obtain ⟨v3, s4, hv3, hB⟩ := gB2_some hB
    refine gf_of rfl (Nat.le_of_ble_eq_true rfl) (Nat.le_of_ble_eq_true rfl) hv3 dX8_unlike_20 ?_
    refine gw_icmp_ne (tgt := 32) dX8_unlike_25 (by decide) (fun hcnd => ?_) (fun hcnd => ?_)
    · rw [if_neg hcnd] at hB
      refine gw_iconst (v := (1 : Int32)) (by decide) dX8_unlike_32 ?_
      exact gw_sub [0, 1, 3] rfl (w_X8_unlike_33 hk4 _ _ _ _ _ _ hB)
    · rw [if_pos hcnd] at hB
      refine gw_iconst (v := (0 : Int32)) (by decide) dX8_unlike_28 ?_
      refine gw_goto (tgt := 33) dX8_unlike_29 (by decide) ?_
      exact gw_sub [0, 1, 3] rfl (w_X8_unlike_33 hk4 _ _ _ _ _ _ hB)
theorem w_X8_unlike_4 {E : gE} {F z0 n0 : Nat} {r : Int32} {s' : gS}   : ∀ (n : Nat) (l0 : Option Nat) (l1 : Option Nat) (l2 : Int32) (l3 : Int32)  (s : gS), f_X8_unlike_4 (gk E) F  n l0 l1 l2 l3 s = some (r, s') → W_X8_unlike E z0 n0 r s' 4 [(0, vR l0), (1, vR l1), (2, vI l2), (3, vI l3)] [] s := by
  intro n
  induction n with
  | zero => intro l0 l1 l2 l3 s hB; cases hB
  | succ n ih => intro l0 l1 l2 l3 s hB; exact w_X8_unlike_4b ih l0 l1 l2 l3 s hB
noncomputable def f_X8_unlike_0 (κ : gK) (F : Nat)  (l0 : Option Nat) (l1 : Option Nat) (s : gS) : Option (Int32 × gS) :=
  f_X8_unlike_4 κ F  F l0 l1 (0 : Int32) (0 : Int32) s
set_option maxHeartbeats 4000000 in
theorem w_X8_unlike_0 {E : gE} {F z0 n0 : Nat} {r : Int32} {s' : gS}   : ∀ (l0 : Option Nat) (l1 : Option Nat)  (s : gS), f_X8_unlike_0 (gk E) F  l0 l1 s = some (r, s') → W_X8_unlike E z0 n0 r s' 0 [(0, vR l0), (1, vR l1)] [] s := by
  intro l0 l1 s hB
  unfold f_X8_unlike_0 at hB
  refine gw_iconst (v := (0 : Int32)) (by decide) dX8_unlike_0 ?_
  refine gw_istore_n (L' := [(2, vI (0 : Int32)), (0, vR l0), (1, vR l1)]) (Nat.le_of_ble_eq_true rfl) rfl dX8_unlike_1 ?_
  refine gw_iconst (v := (0 : Int32)) (by decide) dX8_unlike_2 ?_
  refine gw_istore_n (L' := [(3, vI (0 : Int32)), (2, vI (0 : Int32)), (0, vR l0), (1, vR l1)]) (Nat.le_of_ble_eq_true rfl) rfl dX8_unlike_3 ?_
  exact gw_sub [2, 3, 1, 0] rfl (w_X8_unlike_4  F _ _ _ _ _ hB)
noncomputable def f_X8_unlike (κ : gK) (F : Nat) (a1 : Option Nat) (a2 : Option Nat) (s : gS) : Option (Int32 × gS) := f_X8_unlike_0 κ F a1 a2 s
theorem m_X8_unlike {E : gE} {F : Nat} (a1 : Option Nat) (a2 : Option Nat) (s : gS) (r : Int32) (s' : gS) (h : f_X8_unlike (gk E) F a1 a2 s = some (r, s')) : gCT E 12 yX8_unlike (ws_ yX8_unlike cX8_unlike 4 (some FieldType.int)) [vR a1, vR a2] s (.inl (some (vI r))) s' := by
  refine gCT_of2 (fun h => absurd h (by decide)) (plainFor_of_name (by decide)) (Nat.le_of_ble_eq_true rfl) ?_
  exact gw_sub [0, 1] rfl (w_X8_unlike_0 _ _ _ h)
def dkwX3_changedSince_1 : List UInt8 := [184, 1, 144, 172]
abbrev dktX3_changedSince_1 : List UInt8 := dkwX3_changedSince_1 ++ []
def dkwX3_changedSince_0 : List UInt8 := [42, 180, 0, 26, 27, 50, 180, 1, 118, 61, 42, 28, 186, 1, 137, 0, 0, 42, 186, 1, 141, 0, 0]
abbrev dktX3_changedSince_0 : List UInt8 := dkwX3_changedSince_0 ++ dktX3_changedSince_1
theorem dksX3_changedSince_0 : cX3_changedSince.data.toList.drop 0 = dktX3_changedSince_0 := by decide +kernel
theorem dksX3_changedSince_1 : cX3_changedSince.data.toList.drop 23 = dktX3_changedSince_1 := dk_seg dksX3_changedSince_0 23 rfl rfl
theorem dX3_changedSince_0 : decode cX3_changedSince 0 = .ok (.aload_n 0, 1) := dk_42 (dk_at dksX3_changedSince_0 0 rfl rfl)
theorem dX3_changedSince_1 : decode cX3_changedSince 1 = .ok (.getfield 26, 3) := dk_180 0 26 (dk_at dksX3_changedSince_0 1 rfl rfl)
theorem dX3_changedSince_4 : decode cX3_changedSince 4 = .ok (.iload_n 1, 1) := dk_27 (dk_at dksX3_changedSince_0 4 rfl rfl)
theorem dX3_changedSince_5 : decode cX3_changedSince 5 = .ok (.aaload, 1) := dk_50 (dk_at dksX3_changedSince_0 5 rfl rfl)
theorem dX3_changedSince_6 : decode cX3_changedSince 6 = .ok (.getfield 374, 3) := dk_180 1 118 (dk_at dksX3_changedSince_0 6 rfl rfl)
theorem dX3_changedSince_9 : decode cX3_changedSince 9 = .ok (.istore_n 2, 1) := dk_61 (dk_at dksX3_changedSince_0 9 rfl rfl)
theorem dX3_changedSince_10 : decode cX3_changedSince 10 = .ok (.aload_n 0, 1) := dk_42 (dk_at dksX3_changedSince_0 10 rfl rfl)
theorem dX3_changedSince_11 : decode cX3_changedSince 11 = .ok (.iload_n 2, 1) := dk_28 (dk_at dksX3_changedSince_0 11 rfl rfl)
theorem dX3_changedSince_12 : decode cX3_changedSince 12 = .ok (.invokedynamic 393, 5) := by decide +kernel
theorem dX3_changedSince_17 : decode cX3_changedSince 17 = .ok (.aload_n 0, 1) := dk_42 (dk_at dksX3_changedSince_0 17 rfl rfl)
theorem dX3_changedSince_18 : decode cX3_changedSince 18 = .ok (.invokedynamic 397, 5) := by decide +kernel
theorem dX3_changedSince_23 : decode cX3_changedSince 23 = .ok (.invokestatic 400, 3) := dk_184 1 144 (dk_at dksX3_changedSince_1 0 rfl rfl)
theorem dX3_changedSince_26 : decode cX3_changedSince 26 = .ok (.ireturn, 1) := dk_172 (dk_at dksX3_changedSince_1 3 rfl rfl)
/-! PageGarden$Garden.changedSince(I)I -/
abbrev M_X3_changedSince (z0 n0 : Nat) (s' : gS) : gM := (RX3, cX3_changedSince, 3, (some FieldType.int), "changedSince", [], 35, z0, n0, s'.2.1, s'.2.2)
abbrev W_X3_changedSince (E : gE) (z0 n0 : Nat) (r : Int32) (s' : gS) (pc : Nat) (L : List (Nat × gV)) (st : List gV) (s : gS) : Prop := gW E (M_X3_changedSince z0 n0 s') (gQm E (M_X3_changedSince z0 n0 s') (.inl (some (vI r))) s') pc L st s
noncomputable def f_X3_changedSince_0 (κ : gK) (F : Nat)  (l0 : Option Nat) (l1 : Int32) (s : gS) : Option (Int32 × gS) :=
  gB1 (gfR s l0 7 5) fun v1 =>
  gB1 (gaR s v1 l1) fun v2 =>
  gB1 (gfI s v2 5 1) fun v3 =>
  gB2 (gly0 s l0 v3) fun v4 s5 =>
  gB2 (gly1 s5 l0) fun v6 s7 =>
  gB2 (f_X8_unlike κ F v4 v6 s7) fun v9 s8 =>
  some (v9, s8)
set_option maxHeartbeats 4000000 in
theorem w_X3_changedSince_0 {E : gE} {F z0 n0 : Nat} {r : Int32} {s' : gS}   : ∀ (l0 : Option Nat) (l1 : Int32)  (s : gS), f_X3_changedSince_0 (gk E) F  l0 l1 s = some (r, s') → W_X3_changedSince E z0 n0 r s' 0 [(0, vR l0), (1, vI l1)] [] s := by
  intro l0 l1 s hB
  unfold f_X3_changedSince_0 at hB
  refine gw_aload_n 0 rfl dX3_changedSince_0 ?_
  obtain ⟨v1, hv1, hB⟩ := gB1_some hB
  refine gw_getf (C := RX3) (T := TX3) (N := 9) (k := 5) gcl7 (by decide) in_X3 q287 (gfR_spec hv1) dX3_changedSince_1 ?_
  refine gw_iload_n 1 rfl dX3_changedSince_4 ?_
  obtain ⟨v2, hv2, hB⟩ := gB1_some hB
  refine gw_aaload hv2 dX3_changedSince_5 ?_
  obtain ⟨v3, hv3, hB⟩ := gB1_some hB
  refine gw_getfN (C := RX10) (T := TX10) (N := 2) (k := 1) gcl5 (by decide) in_X10 q2326 (gfI_spec hv3) dX3_changedSince_6 ?_
  refine gw_istore_n (L' := [(2, vI v3), (0, vR l0), (1, vI l1)]) (Nat.le_of_ble_eq_true rfl) rfl dX3_changedSince_9 ?_
  refine gw_aload_n 1 rfl dX3_changedSince_10 ?_
  refine gw_iload_n 0 rfl dX3_changedSince_11 ?_
  obtain ⟨v4, s5, hv4, hB⟩ := gB2_some hB
  refine gw_ly0 hv4 rfl rfl rfl (Nat.le_of_ble_eq_true rfl) (Nat.le_of_ble_eq_true rfl) (lw_t q3200) dX3_changedSince_12 ?_
  refine gw_aload_n 1 rfl dX3_changedSince_17 ?_
  obtain ⟨v6, s7, hv6, hB⟩ := gB2_some hB
  refine gw_ly1 hv6 rfl rfl rfl (Nat.le_of_ble_eq_true rfl) (Nat.le_of_ble_eq_true rfl) (lw_t q3200) dX3_changedSince_18 ?_
  obtain ⟨v9, s8, hv9, hB⟩ := gB2_some hB
  refine gw_callS (y := yX8_unlike) (lw_S q2662 q2663 q159 q2664) hdS_X8_unlike (As := [vR v4, vR v6]) (rest := []) (m_X8_unlike _ _ _ _ _ hv9) (Nat.le_of_ble_eq_true rfl) (Nat.le_of_ble_eq_true rfl) rfl (Nat.le_of_ble_eq_true rfl) dX3_changedSince_23 (gCont_i ?_)
  obtain ⟨rfl, rfl⟩ := Prod.mk.inj (Option.some.inj hB)
  exact gw_iret rfl rfl rfl dX3_changedSince_26
noncomputable def f_X3_changedSince (κ : gK) (F : Nat) (a0 : Option Nat) (a1 : Int32) (s : gS) : Option (Int32 × gS) := f_X3_changedSince_0 κ F a0 a1 s
theorem m_X3_changedSince {E : gE} {F : Nat} (a0 : Option Nat) (a1 : Int32) (s : gS) (r : Int32) (s' : gS) (h : f_X3_changedSince (gk E) F a0 a1 s = some (r, s')) : gCT E 35 yX3_changedSince (ws_ yX3_changedSince cX3_changedSince 3 (some FieldType.int)) [vR a0, vI a1] s (.inl (some (vI r))) s' := by
  refine gCT_of2 (fun _ _ => rfl) (plainFor_of_name (by decide)) (Nat.le_of_ble_eq_true rfl) ?_
  exact gw_sub [0, 1] rfl (w_X3_changedSince_0 _ _ _ h)
def dkwX1_inRange_0 : List UInt8 := [30, 32, 148, 155, 0, 14, 30, 22, 4, 148, 157, 0, 7, 4, 167, 0, 4, 3, 172]
abbrev dktX1_inRange_0 : List UInt8 := dkwX1_inRange_0 ++ []
theorem dksX1_inRange_0 : cX1_inRange.data.toList.drop 0 = dktX1_inRange_0 := by decide +kernel
theorem dX1_inRange_0 : decode cX1_inRange 0 = .ok (.lload_n 0, 1) := dk_30 (dk_at dksX1_inRange_0 0 rfl rfl)
theorem dX1_inRange_1 : decode cX1_inRange 1 = .ok (.lload_n 2, 1) := dk_32 (dk_at dksX1_inRange_0 1 rfl rfl)
theorem dX1_inRange_2 : decode cX1_inRange 2 = .ok (.lcmp, 1) := dk_148 (dk_at dksX1_inRange_0 2 rfl rfl)
theorem dX1_inRange_3 : decode cX1_inRange 3 = .ok (.ifCond .lt 14, 3) := dk_155 0 14 (dk_at dksX1_inRange_0 3 rfl rfl)
theorem dX1_inRange_6 : decode cX1_inRange 6 = .ok (.lload_n 0, 1) := dk_30 (dk_at dksX1_inRange_0 6 rfl rfl)
theorem dX1_inRange_7 : decode cX1_inRange 7 = .ok (.lload 4, 2) := dk_22 4 (dk_at dksX1_inRange_0 7 rfl rfl)
theorem dX1_inRange_9 : decode cX1_inRange 9 = .ok (.lcmp, 1) := dk_148 (dk_at dksX1_inRange_0 9 rfl rfl)
theorem dX1_inRange_10 : decode cX1_inRange 10 = .ok (.ifCond .gt 7, 3) := dk_157 0 7 (dk_at dksX1_inRange_0 10 rfl rfl)
theorem dX1_inRange_13 : decode cX1_inRange 13 = .ok (.iconst 1, 1) := dk_4 (dk_at dksX1_inRange_0 13 rfl rfl)
theorem dX1_inRange_14 : decode cX1_inRange 14 = .ok (.goto 4, 3) := dk_167 0 4 (dk_at dksX1_inRange_0 14 rfl rfl)
theorem dX1_inRange_17 : decode cX1_inRange 17 = .ok (.iconst 0, 1) := dk_3 (dk_at dksX1_inRange_0 17 rfl rfl)
theorem dX1_inRange_18 : decode cX1_inRange 18 = .ok (.ireturn, 1) := dk_172 (dk_at dksX1_inRange_0 18 rfl rfl)
/-! PageGarden.inRange(JJJ)Z -/
abbrev M_X1_inRange (z0 n0 : Nat) (s' : gS) : gM := (RX1, cX1_inRange, 6, (some FieldType.boolean), "inRange", [], 1, z0, n0, s'.2.1, s'.2.2)
abbrev W_X1_inRange (E : gE) (z0 n0 : Nat) (r : Int32) (s' : gS) (pc : Nat) (L : List (Nat × gV)) (st : List gV) (s : gS) : Prop := gW E (M_X1_inRange z0 n0 s') (gQm E (M_X1_inRange z0 n0 s') (.inl (some (vI r))) s') pc L st s
noncomputable def f_X1_inRange_18 (κ : gK) (F : Nat)  (t0 : Int32) (s : gS) : Option (Int32 × gS) :=
  gB1 (gok .boolean t0) fun _ => some (t0, s)
set_option maxHeartbeats 4000000 in
theorem w_X1_inRange_18 {E : gE} {F z0 n0 : Nat} {r : Int32} {s' : gS}   : ∀  (t0 : Int32) (s : gS), f_X1_inRange_18 (gk E) F  t0 s = some (r, s') → W_X1_inRange E z0 n0 r s' 18 [] [vI t0] s := by
  intro t0 s hB
  unfold f_X1_inRange_18 at hB
  obtain ⟨u, hu, hB⟩ := gB1_some hB
  obtain ⟨rfl, rfl⟩ := Prod.mk.inj (Option.some.inj hB)
  exact gw_zret rfl hu rfl rfl dX1_inRange_18
noncomputable def f_X1_inRange_17 (κ : gK) (F : Nat)   (s : gS) : Option (Int32 × gS) :=
  f_X1_inRange_18 κ F  (0 : Int32) s
set_option maxHeartbeats 4000000 in
theorem w_X1_inRange_17 {E : gE} {F z0 n0 : Nat} {r : Int32} {s' : gS}   : ∀   (s : gS), f_X1_inRange_17 (gk E) F   s = some (r, s') → W_X1_inRange E z0 n0 r s' 17 [] [] s := by
  intro  s hB
  unfold f_X1_inRange_17 at hB
  refine gw_iconst (v := (0 : Int32)) (by decide) dX1_inRange_17 ?_
  exact gw_sub [] rfl (w_X1_inRange_18  _ _ hB)
noncomputable def f_X1_inRange_0 (κ : gK) (F : Nat)  (l0 : Int64) (l2 : Int64) (l4 : Int64) (s : gS) : Option (Int32 × gS) :=
  if (lg_cmp l0 l2) < 0 then
    f_X1_inRange_17 κ F  s
  else
    if 0 < (lg_cmp l0 l4) then
      f_X1_inRange_17 κ F  s
    else
      f_X1_inRange_18 κ F  (1 : Int32) s
set_option maxHeartbeats 4000000 in
theorem w_X1_inRange_0 {E : gE} {F z0 n0 : Nat} {r : Int32} {s' : gS}   : ∀ (l0 : Int64) (l2 : Int64) (l4 : Int64)  (s : gS), f_X1_inRange_0 (gk E) F  l0 l2 l4 s = some (r, s') → W_X1_inRange E z0 n0 r s' 0 [(0, vJ l0), (2, vJ l2), (4, vJ l4)] [] s := by
  intro l0 l2 l4 s hB
  unfold f_X1_inRange_0 at hB
  refine gw_lload_n 0 rfl dX1_inRange_0 ?_
  refine gw_lload_n 1 rfl dX1_inRange_1 ?_
  refine gw_lcmp dX1_inRange_2 ?_
  refine gw_if_lt (tgt := 17) dX1_inRange_3 (by decide) (fun hcnd => ?_) (fun hcnd => ?_)
  · rw [if_pos hcnd] at hB
    exact gw_sub [] rfl (w_X1_inRange_17   _ hB)
  · rw [if_neg hcnd] at hB
    refine gw_lload_n 0 rfl dX1_inRange_6 ?_
    refine gw_lload 2 rfl dX1_inRange_7 ?_
    refine gw_lcmp dX1_inRange_9 ?_
    refine gw_if_gt (tgt := 17) dX1_inRange_10 (by decide) (fun hcnd => ?_) (fun hcnd => ?_)
    · rw [if_pos hcnd] at hB
      exact gw_sub [] rfl (w_X1_inRange_17   _ hB)
    · rw [if_neg hcnd] at hB
      refine gw_iconst (v := (1 : Int32)) (by decide) dX1_inRange_13 ?_
      refine gw_goto (tgt := 18) dX1_inRange_14 (by decide) ?_
      exact gw_sub [] rfl (w_X1_inRange_18  _ _ hB)
noncomputable def f_X1_inRange (κ : gK) (F : Nat) (a1 : Int64) (a2 : Int64) (a3 : Int64) (s : gS) : Option (Int32 × gS) := f_X1_inRange_0 κ F a1 a2 a3 s
theorem m_X1_inRange {E : gE} {F : Nat} (a1 : Int64) (a2 : Int64) (a3 : Int64) (s : gS) (r : Int32) (s' : gS) (h : f_X1_inRange (gk E) F a1 a2 a3 s = some (r, s')) : gCT E 1 yX1_inRange (ws_ yX1_inRange cX1_inRange 6 (some FieldType.boolean)) [vJ a1, vJ a2, vJ a3] s (.inl (some (vI r))) s' := by
  refine gCT_of2 (fun h => absurd h (by decide)) (plainFor_of_name (by decide)) (Nat.le_of_ble_eq_true rfl) ?_
  exact gw_sub [0, 1, 2] rfl (w_X1_inRange_0 _ _ _ _ h)
def dkwJ40_init_0 : List UInt8 := [42, 43, 183, 0, 7, 177]
abbrev dktJ40_init_0 : List UInt8 := dkwJ40_init_0 ++ []
theorem dksJ40_init_0 : cJ40_init.data.toList.drop 0 = dktJ40_init_0 := by decide +kernel
theorem dJ40_init_0 : decode cJ40_init 0 = .ok (.aload_n 0, 1) := dk_42 (dk_at dksJ40_init_0 0 rfl rfl)
theorem dJ40_init_1 : decode cJ40_init 1 = .ok (.aload_n 1, 1) := dk_43 (dk_at dksJ40_init_0 1 rfl rfl)
theorem dJ40_init_2 : decode cJ40_init 2 = .ok (.invokespecial 7, 3) := dk_183 0 7 (dk_at dksJ40_init_0 2 rfl rfl)
theorem dJ40_init_5 : decode cJ40_init 5 = .ok (.return_, 1) := dk_177 (dk_at dksJ40_init_0 5 rfl rfl)
/-! java/lang/IndexOutOfBoundsException.<init>(Ljava/lang/String;)V -/
abbrev M_J40_init (z0 n0 : Nat) (s' : gS) : gM := (RJ40, cJ40_init, 2, none, "<init>", [], 3, z0, n0, s'.2.1, s'.2.2)
abbrev W_J40_init (E : gE) (z0 n0 : Nat) (r : Unit) (s' : gS) (pc : Nat) (L : List (Nat × gV)) (st : List gV) (s : gS) : Prop := gW E (M_J40_init z0 n0 s') (gQm E (M_J40_init z0 n0 s') (.inl none) s') pc L st s
noncomputable def f_J40_init_0 (κ : gK) (F : Nat)  (l0 : Option Nat) (l1 : Option Nat) (s : gS) : Option (Unit × gS) :=
  gB1 (gsm l0) fun _ =>
  gB2 (f_J10_init κ F l0 l1 s) fun v2 s1 =>
  some ((), s1)
set_option maxHeartbeats 4000000 in
theorem w_J40_init_0 {E : gE} {F z0 n0 : Nat} {r : Unit} {s' : gS}   : ∀ (l0 : Option Nat) (l1 : Option Nat)  (s : gS), f_J40_init_0 (gk E) F  l0 l1 s = some (r, s') → W_J40_init E z0 n0 r s' 0 [(0, vR l0), (1, vR l1)] [] s := by
  intro l0 l1 s hB
  unfold f_J40_init_0 at hB
  refine gw_aload_n 0 rfl dJ40_init_0 ?_
  refine gw_aload_n 1 rfl dJ40_init_1 ?_
  obtain ⟨u0, hu3, hB⟩ := gB1_some hB
  obtain ⟨v2, s1, hv2, hB⟩ := gB2_some hB
  refine gw_callI (y := yJ10_init) (lw_meth q700) q125 q1970 q699 rfl hdS_J10_init (gsm_spec hu3) (As := [vR l1]) (rest := []) (m_J10_init _ _ _ _ _ hv2) (Nat.le_of_ble_eq_true rfl) (Nat.le_of_ble_eq_true rfl) rfl (Nat.le_of_ble_eq_true rfl) dJ40_init_2 (gCont_v ?_)
  obtain ⟨rfl, rfl⟩ := Prod.mk.inj (Option.some.inj hB)
  exact gw_vret rfl rfl rfl dJ40_init_5
noncomputable def f_J40_init (κ : gK) (F : Nat) (a0 : Option Nat) (a1 : Option Nat) (s : gS) : Option (Unit × gS) := f_J40_init_0 κ F a0 a1 s
theorem m_J40_init {E : gE} {F : Nat} (a0 : Option Nat) (a1 : Option Nat) (s : gS) (r : Unit) (s' : gS) (h : f_J40_init (gk E) F a0 a1 s = some (r, s')) : gCT E 3 yJ40_init (ws_ yJ40_init cJ40_init 2 none) [vR a0, vR a1] s (.inl none) s' := by
  refine gCT_of2 (fun h => absurd h (by decide)) (plainFor_of_name (by decide)) (Nat.le_of_ble_eq_true rfl) ?_
  exact gw_sub [0, 1] rfl (w_J40_init_0 _ _ _ h)
def dkwX1_requireIndex_0 : List UInt8 := [26, 154, 0, 12, 187, 0, 1, 89, 43, 183, 0, 3, 191, 177]
abbrev dktX1_requireIndex_0 : List UInt8 := dkwX1_requireIndex_0 ++ []
theorem dksX1_requireIndex_0 : cX1_requireIndex.data.toList.drop 0 = dktX1_requireIndex_0 := by decide +kernel
theorem dX1_requireIndex_0 : decode cX1_requireIndex 0 = .ok (.iload_n 0, 1) := dk_26 (dk_at dksX1_requireIndex_0 0 rfl rfl)
theorem dX1_requireIndex_1 : decode cX1_requireIndex 1 = .ok (.ifCond .ne 12, 3) := dk_154 0 12 (dk_at dksX1_requireIndex_0 1 rfl rfl)
theorem dX1_requireIndex_4 : decode cX1_requireIndex 4 = .ok (.new 1, 3) := dk_187 0 1 (dk_at dksX1_requireIndex_0 4 rfl rfl)
theorem dX1_requireIndex_7 : decode cX1_requireIndex 7 = .ok (.dup, 1) := dk_89 (dk_at dksX1_requireIndex_0 7 rfl rfl)
theorem dX1_requireIndex_8 : decode cX1_requireIndex 8 = .ok (.aload_n 1, 1) := dk_43 (dk_at dksX1_requireIndex_0 8 rfl rfl)
theorem dX1_requireIndex_9 : decode cX1_requireIndex 9 = .ok (.invokespecial 3, 3) := dk_183 0 3 (dk_at dksX1_requireIndex_0 9 rfl rfl)
theorem dX1_requireIndex_12 : decode cX1_requireIndex 12 = .ok (.athrow, 1) := dk_191 (dk_at dksX1_requireIndex_0 12 rfl rfl)
theorem dX1_requireIndex_13 : decode cX1_requireIndex 13 = .ok (.return_, 1) := dk_177 (dk_at dksX1_requireIndex_0 13 rfl rfl)
/-! PageGarden.requireIndex(ZLjava/lang/String;)V -/
abbrev M_X1_requireIndex (z0 n0 : Nat) (s' : gS) : gM := (RX1, cX1_requireIndex, 2, none, "requireIndex", [], 9, z0, n0, s'.2.1, s'.2.2)
abbrev W_X1_requireIndex (E : gE) (z0 n0 : Nat) (r : (Unit ⊕ String)) (s' : gS) (pc : Nat) (L : List (Nat × gV)) (st : List gV) (s : gS) : Prop := gW E (M_X1_requireIndex z0 n0 s') (gQm E (M_X1_requireIndex z0 n0 s') (gOv r) s') pc L st s
noncomputable def f_X1_requireIndex_0 (κ : gK) (F : Nat)  (l0 : Int32) (l1 : Option Nat) (s : gS) : Option ((Unit ⊕ String) × gS) :=
  if l0 = 0 then
    gB1 (gsm l1) fun _ =>
    some (.inr "java/lang/IndexOutOfBoundsException", gthr s)
  else
    some ((.inl ()), s)
set_option maxHeartbeats 4000000 in
theorem w_X1_requireIndex_0 {E : gE} {F z0 n0 : Nat} {r : (Unit ⊕ String)} {s' : gS}   : ∀ (l0 : Int32) (l1 : Option Nat)  (s : gS), f_X1_requireIndex_0 (gk E) F  l0 l1 s = some (r, s') → W_X1_requireIndex E z0 n0 r s' 0 [(0, vI l0), (1, vR l1)] [] s := by
  intro l0 l1 s hB
  unfold f_X1_requireIndex_0 at hB
  refine gw_iload_n 0 rfl dX1_requireIndex_0 ?_
  refine gw_if_ne (tgt := 13) dX1_requireIndex_1 (by decide) (fun hcnd => ?_) (fun hcnd => ?_)
  · rw [if_neg hcnd] at hB
    obtain ⟨rfl, rfl⟩ := Prod.mk.inj (Option.some.inj hB)
    exact gw_vret rfl rfl rfl dX1_requireIndex_13
  · rw [if_pos hcnd] at hB
    obtain ⟨u0, hu1, hB⟩ := gB1_some hB
    obtain ⟨rfl, rfl⟩ := Prod.mk.inj (Option.some.inj hB)
    exact gw_throwA (names := ["java/lang/RuntimeException", "java/lang/Exception"]) 1 rfl (gsm_spec hu1) rfl (by decide) (by decide) q2284 q162 gtw_IOB gtm_IOB dX1_requireIndex_4 dX1_requireIndex_7 dX1_requireIndex_8 dX1_requireIndex_9 dX1_requireIndex_12 rfl (Nat.le_of_ble_eq_true rfl) (Nat.le_of_ble_eq_true rfl) rfl rfl
noncomputable def f_X1_requireIndex (κ : gK) (F : Nat) (a1 : Int32) (a2 : Option Nat) (s : gS) : Option ((Unit ⊕ String) × gS) := f_X1_requireIndex_0 κ F a1 a2 s
theorem m_X1_requireIndex {E : gE} {F : Nat} (a1 : Int32) (a2 : Option Nat) (s : gS) (r : (Unit ⊕ String)) (s' : gS) (h : f_X1_requireIndex (gk E) F a1 a2 s = some (r, s')) : gCT E 9 yX1_requireIndex (ws_ yX1_requireIndex cX1_requireIndex 2 none) [vI a1, vR a2] s (gOv r) s' := by
  refine gCT_of2 (fun h => absurd h (by decide)) (plainFor_of_name (by decide)) (Nat.le_of_ble_eq_true rfl) ?_
  exact gw_sub [0, 1] rfl (w_X1_requireIndex_0 _ _ _ h)
def dkwX3_requireReader_0 : List UInt8 := [26, 133, 9, 20, 1, 90, 184, 1, 25, 19, 1, 100, 184, 1, 102, 177]
abbrev dktX3_requireReader_0 : List UInt8 := dkwX3_requireReader_0 ++ []
theorem dksX3_requireReader_0 : cX3_requireReader.data.toList.drop 0 = dktX3_requireReader_0 := by decide +kernel
theorem dX3_requireReader_0 : decode cX3_requireReader 0 = .ok (.iload_n 0, 1) := dk_26 (dk_at dksX3_requireReader_0 0 rfl rfl)
theorem dX3_requireReader_1 : decode cX3_requireReader 1 = .ok (.i2l, 1) := dk_133 (dk_at dksX3_requireReader_0 1 rfl rfl)
theorem dX3_requireReader_2 : decode cX3_requireReader 2 = .ok (.lconst 0, 1) := dk_9 (dk_at dksX3_requireReader_0 2 rfl rfl)
theorem dX3_requireReader_3 : decode cX3_requireReader 3 = .ok (.ldc2_w 346, 3) := dk_20 1 90 (dk_at dksX3_requireReader_0 3 rfl rfl)
theorem dX3_requireReader_6 : decode cX3_requireReader 6 = .ok (.invokestatic 281, 3) := dk_184 1 25 (dk_at dksX3_requireReader_0 6 rfl rfl)
theorem dX3_requireReader_9 : decode cX3_requireReader 9 = .ok (.ldc_w 356, 3) := dk_19 1 100 (dk_at dksX3_requireReader_0 9 rfl rfl)
theorem dX3_requireReader_12 : decode cX3_requireReader 12 = .ok (.invokestatic 358, 3) := dk_184 1 102 (dk_at dksX3_requireReader_0 12 rfl rfl)
theorem dX3_requireReader_15 : decode cX3_requireReader 15 = .ok (.return_, 1) := dk_177 (dk_at dksX3_requireReader_0 15 rfl rfl)
/-! PageGarden$Garden.requireReader(I)V -/
abbrev M_X3_requireReader (z0 n0 : Nat) (s' : gS) : gM := (RX3, cX3_requireReader, 1, none, "requireReader", [], 10, z0, n0, s'.2.1, s'.2.2)
abbrev W_X3_requireReader (E : gE) (z0 n0 : Nat) (r : (Unit ⊕ String)) (s' : gS) (pc : Nat) (L : List (Nat × gV)) (st : List gV) (s : gS) : Prop := gW E (M_X3_requireReader z0 n0 s') (gQm E (M_X3_requireReader z0 n0 s') (gOv r) s') pc L st s
noncomputable def f_X3_requireReader_0 (κ : gK) (F : Nat)  (l0 : Int32) (s : gS) : Option ((Unit ⊕ String) × gS) :=
  gB2 (f_X1_inRange κ F (l0.toInt64) (0 : Int64) (3 : Int64) s) fun v2 s1 =>
  gB3 (f_X1_requireIndex κ F v2 (κ.2 34) s1) fun v4 s3 =>
  some ((.inl ()), s3)
set_option maxHeartbeats 4000000 in
theorem w_X3_requireReader_0 {E : gE} {F z0 n0 : Nat} {r : (Unit ⊕ String)} {s' : gS}   : ∀ (l0 : Int32)  (s : gS), f_X3_requireReader_0 (gk E) F  l0 s = some (r, s') → W_X3_requireReader E z0 n0 r s' 0 [(0, vI l0)] [] s := by
  intro l0 s hB
  unfold f_X3_requireReader_0 at hB
  refine gw_iload_n 0 rfl dX3_requireReader_0 ?_
  refine gw_i2l dX3_requireReader_1 ?_
  refine gw_lconst (v := (0 : Int64)) (by decide) dX3_requireReader_2 ?_
  refine gw_ldc2 (3 : Int64) q2241 dX3_requireReader_3 ?_
  obtain ⟨v2, s1, hv2, hB⟩ := gB2_some hB
  refine gw_callSN (y := yX1_inRange) (lw_meth q1363) q108 q2008 q1362 hdS_X1_inRange (As := [vJ (l0.toInt64), vJ (0 : Int64), vJ (3 : Int64)]) (rest := []) (m_X1_inRange _ _ _ _ _ _ hv2) (Nat.le_of_ble_eq_true rfl) (Nat.le_of_ble_eq_true rfl) rfl (Nat.le_of_ble_eq_true rfl) dX3_requireReader_6 (gCont_i ?_)
  refine gw_ldcSW (own := "PageGarden$Garden") (tx := "reader") (i := 34) rfl (by decide) dX3_requireReader_9 ?_
  rcases gB3_some hB with ⟨v4, s3, hv4, hB⟩ | ⟨Cv4, hv4, hzv4⟩
  rotate_left
  · subst hzv4
    exact gw_callSN (y := yX1_requireIndex) (lw_meth q2283) q108 q2281 q2282 hdS_X1_requireIndex (As := [vI v2, vR ((gk E).2 34)]) (rest := []) (m_X1_requireIndex _ _ _ _ _ hv4) (Nat.le_of_ble_eq_true rfl) (Nat.le_of_ble_eq_true rfl) rfl (Nat.le_of_ble_eq_true rfl) dX3_requireReader_12 (gCont_x (gx_out rfl rfl rfl))
  refine gw_callSN (y := yX1_requireIndex) (lw_meth q2283) q108 q2281 q2282 hdS_X1_requireIndex (As := [vI v2, vR ((gk E).2 34)]) (rest := []) (m_X1_requireIndex _ _ _ _ _ hv4) (Nat.le_of_ble_eq_true rfl) (Nat.le_of_ble_eq_true rfl) rfl (Nat.le_of_ble_eq_true rfl) dX3_requireReader_12 (gCont_v ?_)
  obtain ⟨rfl, rfl⟩ := Prod.mk.inj (Option.some.inj hB)
  exact gw_vret rfl rfl rfl dX3_requireReader_15
noncomputable def f_X3_requireReader (κ : gK) (F : Nat) (a1 : Int32) (s : gS) : Option ((Unit ⊕ String) × gS) := f_X3_requireReader_0 κ F a1 s
theorem m_X3_requireReader {E : gE} {F : Nat} (a1 : Int32) (s : gS) (r : (Unit ⊕ String)) (s' : gS) (h : f_X3_requireReader (gk E) F a1 s = some (r, s')) : gCT E 10 yX3_requireReader (ws_ yX3_requireReader cX3_requireReader 1 none) [vI a1] s (gOv r) s' := by
  refine gCT_of2 (fun h => absurd h (by decide)) (plainFor_of_name (by decide)) (Nat.le_of_ble_eq_true rfl) ?_
  exact gw_sub [0] rfl (w_X3_requireReader_0 _ _ h)
def dkwX3_requireOpen_0 : List UInt8 := [42, 180, 0, 26, 27, 50, 198, 0, 7, 4, 167, 0, 4, 3, 19, 1, 105, 184, 0, 183, 177]
abbrev dktX3_requireOpen_0 : List UInt8 := dkwX3_requireOpen_0 ++ []
theorem dksX3_requireOpen_0 : cX3_requireOpen.data.toList.drop 0 = dktX3_requireOpen_0 := by decide +kernel
theorem dX3_requireOpen_0 : decode cX3_requireOpen 0 = .ok (.aload_n 0, 1) := dk_42 (dk_at dksX3_requireOpen_0 0 rfl rfl)
theorem dX3_requireOpen_1 : decode cX3_requireOpen 1 = .ok (.getfield 26, 3) := dk_180 0 26 (dk_at dksX3_requireOpen_0 1 rfl rfl)
theorem dX3_requireOpen_4 : decode cX3_requireOpen 4 = .ok (.iload_n 1, 1) := dk_27 (dk_at dksX3_requireOpen_0 4 rfl rfl)
theorem dX3_requireOpen_5 : decode cX3_requireOpen 5 = .ok (.aaload, 1) := dk_50 (dk_at dksX3_requireOpen_0 5 rfl rfl)
theorem dX3_requireOpen_6 : decode cX3_requireOpen 6 = .ok (.ifnull 7, 3) := dk_198 0 7 (dk_at dksX3_requireOpen_0 6 rfl rfl)
theorem dX3_requireOpen_9 : decode cX3_requireOpen 9 = .ok (.iconst 1, 1) := dk_4 (dk_at dksX3_requireOpen_0 9 rfl rfl)
theorem dX3_requireOpen_10 : decode cX3_requireOpen 10 = .ok (.goto 4, 3) := dk_167 0 4 (dk_at dksX3_requireOpen_0 10 rfl rfl)
theorem dX3_requireOpen_13 : decode cX3_requireOpen 13 = .ok (.iconst 0, 1) := dk_3 (dk_at dksX3_requireOpen_0 13 rfl rfl)
theorem dX3_requireOpen_14 : decode cX3_requireOpen 14 = .ok (.ldc_w 361, 3) := dk_19 1 105 (dk_at dksX3_requireOpen_0 14 rfl rfl)
theorem dX3_requireOpen_17 : decode cX3_requireOpen 17 = .ok (.invokestatic 183, 3) := dk_184 0 183 (dk_at dksX3_requireOpen_0 17 rfl rfl)
theorem dX3_requireOpen_20 : decode cX3_requireOpen 20 = .ok (.return_, 1) := dk_177 (dk_at dksX3_requireOpen_0 20 rfl rfl)
/-! PageGarden$Garden.requireOpen(I)V -/
abbrev M_X3_requireOpen (z0 n0 : Nat) (s' : gS) : gM := (RX3, cX3_requireOpen, 2, none, "requireOpen", [], 10, z0, n0, s'.2.1, s'.2.2)
abbrev W_X3_requireOpen (E : gE) (z0 n0 : Nat) (r : (Unit ⊕ String)) (s' : gS) (pc : Nat) (L : List (Nat × gV)) (st : List gV) (s : gS) : Prop := gW E (M_X3_requireOpen z0 n0 s') (gQm E (M_X3_requireOpen z0 n0 s') (gOv r) s') pc L st s
noncomputable def f_X3_requireOpen_14 (κ : gK) (F : Nat)  (t0 : Int32) (s : gS) : Option ((Unit ⊕ String) × gS) :=
  gB3 (f_X1_requireState κ F t0 (κ.2 35) s) fun v2 s1 =>
  some ((.inl ()), s1)
set_option maxHeartbeats 4000000 in
theorem w_X3_requireOpen_14 {E : gE} {F z0 n0 : Nat} {r : (Unit ⊕ String)} {s' : gS}   : ∀  (t0 : Int32) (s : gS), f_X3_requireOpen_14 (gk E) F  t0 s = some (r, s') → W_X3_requireOpen E z0 n0 r s' 14 [] [vI t0] s := by
  intro t0 s hB
  unfold f_X3_requireOpen_14 at hB
  refine gw_ldcSW (own := "PageGarden$Garden") (tx := "it is not open") (i := 35) rfl (by decide) dX3_requireOpen_14 ?_
  rcases gB3_some hB with ⟨v2, s1, hv2, hB⟩ | ⟨Cv2, hv2, hzv2⟩
  rotate_left
  · subst hzv2
    exact gw_callSN (y := yX1_requireState) (lw_meth q2017) q108 q2015 q2016 hdS_X1_requireState (As := [vI t0, vR ((gk E).2 35)]) (rest := []) (m_X1_requireState _ _ _ _ _ hv2) (Nat.le_of_ble_eq_true rfl) (Nat.le_of_ble_eq_true rfl) rfl (Nat.le_of_ble_eq_true rfl) dX3_requireOpen_17 (gCont_x (gx_out rfl rfl rfl))
  refine gw_callSN (y := yX1_requireState) (lw_meth q2017) q108 q2015 q2016 hdS_X1_requireState (As := [vI t0, vR ((gk E).2 35)]) (rest := []) (m_X1_requireState _ _ _ _ _ hv2) (Nat.le_of_ble_eq_true rfl) (Nat.le_of_ble_eq_true rfl) rfl (Nat.le_of_ble_eq_true rfl) dX3_requireOpen_17 (gCont_v ?_)
  obtain ⟨rfl, rfl⟩ := Prod.mk.inj (Option.some.inj hB)
  exact gw_vret rfl rfl rfl dX3_requireOpen_20
noncomputable def f_X3_requireOpen_0 (κ : gK) (F : Nat)  (l0 : Option Nat) (l1 : Int32) (s : gS) : Option ((Unit ⊕ String) × gS) :=
  gB1 (gfR s l0 7 5) fun v1 =>
  gB1 (gaR s v1 l1) fun v2 =>
  if v2 = none then
    f_X3_requireOpen_14 κ F  (0 : Int32) s
  else
    f_X3_requireOpen_14 κ F  (1 : Int32) s
set_option maxHeartbeats 4000000 in
theorem w_X3_requireOpen_0 {E : gE} {F z0 n0 : Nat} {r : (Unit ⊕ String)} {s' : gS}   : ∀ (l0 : Option Nat) (l1 : Int32)  (s : gS), f_X3_requireOpen_0 (gk E) F  l0 l1 s = some (r, s') → W_X3_requireOpen E z0 n0 r s' 0 [(0, vR l0), (1, vI l1)] [] s := by
  intro l0 l1 s hB
  unfold f_X3_requireOpen_0 at hB
  refine gw_aload_n 0 rfl dX3_requireOpen_0 ?_
  obtain ⟨v1, hv1, hB⟩ := gB1_some hB
  refine gw_getf (C := RX3) (T := TX3) (N := 9) (k := 5) gcl7 (by decide) in_X3 q287 (gfR_spec hv1) dX3_requireOpen_1 ?_
  refine gw_iload_n 1 rfl dX3_requireOpen_4 ?_
  obtain ⟨v2, hv2, hB⟩ := gB1_some hB
  refine gw_aaload hv2 dX3_requireOpen_5 ?_
  refine gw_ifnull (tgt := 13) dX3_requireOpen_6 (by decide) (fun hcnd => ?_) (fun hcnd => ?_)
  · rw [if_pos hcnd] at hB
    refine gw_iconst (v := (0 : Int32)) (by decide) dX3_requireOpen_13 ?_
    exact gw_sub [] rfl (w_X3_requireOpen_14  _ _ hB)
  · rw [if_neg hcnd] at hB
    refine gw_iconst (v := (1 : Int32)) (by decide) dX3_requireOpen_9 ?_
    refine gw_goto (tgt := 14) dX3_requireOpen_10 (by decide) ?_
    exact gw_sub [] rfl (w_X3_requireOpen_14  _ _ hB)
noncomputable def f_X3_requireOpen (κ : gK) (F : Nat) (a0 : Option Nat) (a1 : Int32) (s : gS) : Option ((Unit ⊕ String) × gS) := f_X3_requireOpen_0 κ F a0 a1 s
theorem m_X3_requireOpen {E : gE} {F : Nat} (a0 : Option Nat) (a1 : Int32) (s : gS) (r : (Unit ⊕ String)) (s' : gS) (h : f_X3_requireOpen (gk E) F a0 a1 s = some (r, s')) : gCT E 10 yX3_requireOpen (ws_ yX3_requireOpen cX3_requireOpen 2 none) [vR a0, vI a1] s (gOv r) s' := by
  refine gCT_of2 (fun h => absurd h (by decide)) (plainFor_of_name (by decide)) (Nat.le_of_ble_eq_true rfl) ?_
  exact gw_sub [0, 1] rfl (w_X3_requireOpen_0 _ _ _ h)
def dkwX3_close_1 : List UInt8 := [182, 1, 1, 28, 100, 172]
abbrev dktX3_close_1 : List UInt8 := dkwX3_close_1 ++ []
def dkwX3_close_0 : List UInt8 := [27, 184, 1, 112, 42, 27, 182, 1, 115, 42, 182, 1, 1, 61, 42, 180, 0, 26, 27, 1, 83, 42]
abbrev dktX3_close_0 : List UInt8 := dkwX3_close_0 ++ dktX3_close_1
theorem dksX3_close_0 : cX3_close.data.toList.drop 0 = dktX3_close_0 := by decide +kernel
theorem dksX3_close_1 : cX3_close.data.toList.drop 22 = dktX3_close_1 := dk_seg dksX3_close_0 22 rfl rfl
theorem dX3_close_0 : decode cX3_close 0 = .ok (.iload_n 1, 1) := dk_27 (dk_at dksX3_close_0 0 rfl rfl)
theorem dX3_close_1 : decode cX3_close 1 = .ok (.invokestatic 368, 3) := dk_184 1 112 (dk_at dksX3_close_0 1 rfl rfl)
theorem dX3_close_4 : decode cX3_close 4 = .ok (.aload_n 0, 1) := dk_42 (dk_at dksX3_close_0 4 rfl rfl)
theorem dX3_close_5 : decode cX3_close 5 = .ok (.iload_n 1, 1) := dk_27 (dk_at dksX3_close_0 5 rfl rfl)
theorem dX3_close_6 : decode cX3_close 6 = .ok (.invokevirtual 371, 3) := dk_182 1 115 (dk_at dksX3_close_0 6 rfl rfl)
theorem dX3_close_9 : decode cX3_close 9 = .ok (.aload_n 0, 1) := dk_42 (dk_at dksX3_close_0 9 rfl rfl)
theorem dX3_close_10 : decode cX3_close 10 = .ok (.invokevirtual 257, 3) := dk_182 1 1 (dk_at dksX3_close_0 10 rfl rfl)
theorem dX3_close_13 : decode cX3_close 13 = .ok (.istore_n 2, 1) := dk_61 (dk_at dksX3_close_0 13 rfl rfl)
theorem dX3_close_14 : decode cX3_close 14 = .ok (.aload_n 0, 1) := dk_42 (dk_at dksX3_close_0 14 rfl rfl)
theorem dX3_close_15 : decode cX3_close 15 = .ok (.getfield 26, 3) := dk_180 0 26 (dk_at dksX3_close_0 15 rfl rfl)
theorem dX3_close_18 : decode cX3_close 18 = .ok (.iload_n 1, 1) := dk_27 (dk_at dksX3_close_0 18 rfl rfl)
theorem dX3_close_19 : decode cX3_close 19 = .ok (.aconst_null, 1) := dk_1 (dk_at dksX3_close_0 19 rfl rfl)
theorem dX3_close_20 : decode cX3_close 20 = .ok (.aastore, 1) := dk_83 (dk_at dksX3_close_0 20 rfl rfl)
theorem dX3_close_21 : decode cX3_close 21 = .ok (.aload_n 0, 1) := dk_42 (dk_at dksX3_close_0 21 rfl rfl)
theorem dX3_close_22 : decode cX3_close 22 = .ok (.invokevirtual 257, 3) := dk_182 1 1 (dk_at dksX3_close_1 0 rfl rfl)
theorem dX3_close_25 : decode cX3_close 25 = .ok (.iload_n 2, 1) := dk_28 (dk_at dksX3_close_1 3 rfl rfl)
theorem dX3_close_26 : decode cX3_close 26 = .ok (.isub, 1) := dk_100 (dk_at dksX3_close_1 4 rfl rfl)
theorem dX3_close_27 : decode cX3_close 27 = .ok (.ireturn, 1) := dk_172 (dk_at dksX3_close_1 5 rfl rfl)
/-! PageGarden$Garden.close(I)I -/
abbrev M_X3_close (z0 n0 : Nat) (s' : gS) : gM := (RX3, cX3_close, 3, (some FieldType.int), "close", [], 11, z0, n0, s'.2.1, s'.2.2)
abbrev W_X3_close (E : gE) (z0 n0 : Nat) (r : (Int32 ⊕ String)) (s' : gS) (pc : Nat) (L : List (Nat × gV)) (st : List gV) (s : gS) : Prop := gW E (M_X3_close z0 n0 s') (gQm E (M_X3_close z0 n0 s') (gOi r) s') pc L st s
noncomputable def f_X3_close_0 (κ : gK) (F : Nat)  (l0 : Option Nat) (l1 : Int32) (s : gS) : Option ((Int32 ⊕ String) × gS) :=
  gB3 (f_X3_requireReader κ F l1 s) fun v2 s1 =>
  gB1 (gck s1 l0 7) fun _ =>
  gB3 (f_X3_requireOpen κ F l0 l1 s1) fun v4 s3 =>
  gB1 (gck s3 l0 7) fun _ =>
  gB2 (f_X3_diggable κ F l0  s3) fun v7 s6 =>
  gB1 (gfR s6 l0 7 5) fun v9 =>
  gB1 (gsR κ s6 v9 l1 none) fun s10 =>
  gB1 (gck s10 l0 7) fun _ =>
  gB2 (f_X3_diggable κ F l0  s10) fun v12 s11 =>
  some ((.inl (v12 - v7)), s11)
set_option maxHeartbeats 4000000 in
theorem w_X3_close_0 {E : gE} {F z0 n0 : Nat} {r : (Int32 ⊕ String)} {s' : gS}   : ∀ (l0 : Option Nat) (l1 : Int32)  (s : gS), f_X3_close_0 (gk E) F  l0 l1 s = some (r, s') → W_X3_close E z0 n0 r s' 0 [(0, vR l0), (1, vI l1)] [] s := by
  intro l0 l1 s hB
  unfold f_X3_close_0 at hB
  refine gw_iload_n 1 rfl dX3_close_0 ?_
  rcases gB3_some hB with ⟨v2, s1, hv2, hB⟩ | ⟨Cv2, hv2, hzv2⟩
  rotate_left
  · subst hzv2
    exact gw_callS (y := yX3_requireReader) (lw_S q2277 q2278 q110 q2279) hdS_X3_requireReader (As := [vI l1]) (rest := []) (m_X3_requireReader _ _ _ _ hv2) (Nat.le_of_ble_eq_true rfl) (Nat.le_of_ble_eq_true rfl) rfl (Nat.le_of_ble_eq_true rfl) dX3_close_1 (gCont_x (gx_out rfl rfl rfl))
  refine gw_callS (y := yX3_requireReader) (lw_S q2277 q2278 q110 q2279) hdS_X3_requireReader (As := [vI l1]) (rest := []) (m_X3_requireReader _ _ _ _ hv2) (Nat.le_of_ble_eq_true rfl) (Nat.le_of_ble_eq_true rfl) rfl (Nat.le_of_ble_eq_true rfl) dX3_close_1 (gCont_v ?_)
  refine gw_aload_n 0 rfl dX3_close_4 ?_
  refine gw_iload_n 1 rfl dX3_close_5 ?_
  obtain ⟨u0, hu5, hB⟩ := gB1_some hB
  rcases gB3_some hB with ⟨v4, s3, hv4, hB⟩ | ⟨Cv4, hv4, hzv4⟩
  rotate_left
  · subst hzv4
    exact gw_callV (y := yX3_requireOpen) (lw_V q2296 q2297 q2298 q110 q2299) hdV_X3_requireOpen gcl7 hu5 (As := [vI l1]) (rest := []) (m_X3_requireOpen _ _ _ _ _ hv4) (Nat.le_of_ble_eq_true rfl) (Nat.le_of_ble_eq_true rfl) rfl (Nat.le_of_ble_eq_true rfl) dX3_close_6 (gCont_x (gx_out rfl rfl rfl))
  refine gw_callV (y := yX3_requireOpen) (lw_V q2296 q2297 q2298 q110 q2299) hdV_X3_requireOpen gcl7 hu5 (As := [vI l1]) (rest := []) (m_X3_requireOpen _ _ _ _ _ hv4) (Nat.le_of_ble_eq_true rfl) (Nat.le_of_ble_eq_true rfl) rfl (Nat.le_of_ble_eq_true rfl) dX3_close_6 (gCont_v ?_)
  refine gw_aload_n 0 rfl dX3_close_9 ?_
  obtain ⟨u0, hu8, hB⟩ := gB1_some hB
  obtain ⟨v7, s6, hv7, hB⟩ := gB2_some hB
  refine gw_callV (y := yX3_diggable) (lw_V q2092 q2093 q2094 q110 q2095) hdV_X3_diggable gcl7 hu8 (As := []) (rest := []) (m_X3_diggable _ _ _ _ hv7) (Nat.le_of_ble_eq_true rfl) (Nat.le_of_ble_eq_true rfl) rfl (Nat.le_of_ble_eq_true rfl) dX3_close_10 (gCont_i ?_)
  refine gw_istore_n (L' := [(2, vI v7), (0, vR l0), (1, vI l1)]) (Nat.le_of_ble_eq_true rfl) rfl dX3_close_13 ?_
  refine gw_aload_n 1 rfl dX3_close_14 ?_
  obtain ⟨v9, hv9, hB⟩ := gB1_some hB
  refine gw_getf (C := RX3) (T := TX3) (N := 9) (k := 5) gcl7 (by decide) in_X3 q287 (gfR_spec hv9) dX3_close_15 ?_
  refine gw_iload_n 2 rfl dX3_close_18 ?_
  refine gw_null dX3_close_19 ?_
  obtain ⟨s10, hs10, hB⟩ := gB1_some hB
  refine gw_aastore hs10 dX3_close_20 ?_
  refine gw_aload_n 1 rfl dX3_close_21 ?_
  obtain ⟨u0, hu13, hB⟩ := gB1_some hB
  obtain ⟨v12, s11, hv12, hB⟩ := gB2_some hB
  refine gw_callV (y := yX3_diggable) (lw_V q2092 q2093 q2094 q110 q2095) hdV_X3_diggable gcl7 hu13 (As := []) (rest := []) (m_X3_diggable _ _ _ _ hv12) (Nat.le_of_ble_eq_true rfl) (Nat.le_of_ble_eq_true rfl) rfl (Nat.le_of_ble_eq_true rfl) dX3_close_22 (gCont_i ?_)
  refine gw_iload_n 0 rfl dX3_close_25 ?_
  refine gw_isub dX3_close_26 ?_
  obtain ⟨rfl, rfl⟩ := Prod.mk.inj (Option.some.inj hB)
  exact gw_iret rfl rfl rfl dX3_close_27
noncomputable def f_X3_close (κ : gK) (F : Nat) (a0 : Option Nat) (a1 : Int32) (s : gS) : Option ((Int32 ⊕ String) × gS) := f_X3_close_0 κ F a0 a1 s
theorem m_X3_close {E : gE} {F : Nat} (a0 : Option Nat) (a1 : Int32) (s : gS) (r : (Int32 ⊕ String)) (s' : gS) (h : f_X3_close (gk E) F a0 a1 s = some (r, s')) : gCT E 11 yX3_close (ws_ yX3_close cX3_close 3 (some FieldType.int)) [vR a0, vI a1] s (gOi r) s' := by
  refine gCT_of2 (fun h => absurd h (by decide)) (plainFor_of_name (by decide)) (Nat.le_of_ble_eq_true rfl) ?_
  exact gw_sub [0, 1] rfl (w_X3_close_0 _ _ _ h)
def dkwX1_requireArgument_0 : List UInt8 := [26, 154, 0, 12, 187, 0, 7, 89, 43, 183, 0, 9, 191, 177]
abbrev dktX1_requireArgument_0 : List UInt8 := dkwX1_requireArgument_0 ++ []
theorem dksX1_requireArgument_0 : cX1_requireArgument.data.toList.drop 0 = dktX1_requireArgument_0 := by decide +kernel
theorem dX1_requireArgument_0 : decode cX1_requireArgument 0 = .ok (.iload_n 0, 1) := dk_26 (dk_at dksX1_requireArgument_0 0 rfl rfl)
theorem dX1_requireArgument_1 : decode cX1_requireArgument 1 = .ok (.ifCond .ne 12, 3) := dk_154 0 12 (dk_at dksX1_requireArgument_0 1 rfl rfl)
theorem dX1_requireArgument_4 : decode cX1_requireArgument 4 = .ok (.new 7, 3) := dk_187 0 7 (dk_at dksX1_requireArgument_0 4 rfl rfl)
theorem dX1_requireArgument_7 : decode cX1_requireArgument 7 = .ok (.dup, 1) := dk_89 (dk_at dksX1_requireArgument_0 7 rfl rfl)
theorem dX1_requireArgument_8 : decode cX1_requireArgument 8 = .ok (.aload_n 1, 1) := dk_43 (dk_at dksX1_requireArgument_0 8 rfl rfl)
theorem dX1_requireArgument_9 : decode cX1_requireArgument 9 = .ok (.invokespecial 9, 3) := dk_183 0 9 (dk_at dksX1_requireArgument_0 9 rfl rfl)
theorem dX1_requireArgument_12 : decode cX1_requireArgument 12 = .ok (.athrow, 1) := dk_191 (dk_at dksX1_requireArgument_0 12 rfl rfl)
theorem dX1_requireArgument_13 : decode cX1_requireArgument 13 = .ok (.return_, 1) := dk_177 (dk_at dksX1_requireArgument_0 13 rfl rfl)
/-! PageGarden.requireArgument(ZLjava/lang/String;)V -/
abbrev M_X1_requireArgument (z0 n0 : Nat) (s' : gS) : gM := (RX1, cX1_requireArgument, 2, none, "requireArgument", [], 9, z0, n0, s'.2.1, s'.2.2)
abbrev W_X1_requireArgument (E : gE) (z0 n0 : Nat) (r : (Unit ⊕ String)) (s' : gS) (pc : Nat) (L : List (Nat × gV)) (st : List gV) (s : gS) : Prop := gW E (M_X1_requireArgument z0 n0 s') (gQm E (M_X1_requireArgument z0 n0 s') (gOv r) s') pc L st s
noncomputable def f_X1_requireArgument_0 (κ : gK) (F : Nat)  (l0 : Int32) (l1 : Option Nat) (s : gS) : Option ((Unit ⊕ String) × gS) :=
  if l0 = 0 then
    gB1 (gsm l1) fun _ =>
    some (.inr "java/lang/IllegalArgumentException", gthr s)
  else
    some ((.inl ()), s)
set_option maxHeartbeats 4000000 in
theorem w_X1_requireArgument_0 {E : gE} {F z0 n0 : Nat} {r : (Unit ⊕ String)} {s' : gS}   : ∀ (l0 : Int32) (l1 : Option Nat)  (s : gS), f_X1_requireArgument_0 (gk E) F  l0 l1 s = some (r, s') → W_X1_requireArgument E z0 n0 r s' 0 [(0, vI l0), (1, vR l1)] [] s := by
  intro l0 l1 s hB
  unfold f_X1_requireArgument_0 at hB
  refine gw_iload_n 0 rfl dX1_requireArgument_0 ?_
  refine gw_if_ne (tgt := 13) dX1_requireArgument_1 (by decide) (fun hcnd => ?_) (fun hcnd => ?_)
  · rw [if_neg hcnd] at hB
    obtain ⟨rfl, rfl⟩ := Prod.mk.inj (Option.some.inj hB)
    exact gw_vret rfl rfl rfl dX1_requireArgument_13
  · rw [if_pos hcnd] at hB
    obtain ⟨u0, hu1, hB⟩ := gB1_some hB
    obtain ⟨rfl, rfl⟩ := Prod.mk.inj (Option.some.inj hB)
    exact gw_throwA (names := ["java/lang/RuntimeException", "java/lang/Exception"]) 1 rfl (gsm_spec hu1) rfl (by decide) (by decide) q2004 q126 gtw_IAE gtm_IAE dX1_requireArgument_4 dX1_requireArgument_7 dX1_requireArgument_8 dX1_requireArgument_9 dX1_requireArgument_12 rfl (Nat.le_of_ble_eq_true rfl) (Nat.le_of_ble_eq_true rfl) rfl rfl
noncomputable def f_X1_requireArgument (κ : gK) (F : Nat) (a1 : Int32) (a2 : Option Nat) (s : gS) : Option ((Unit ⊕ String) × gS) := f_X1_requireArgument_0 κ F a1 a2 s
theorem m_X1_requireArgument {E : gE} {F : Nat} (a1 : Int32) (a2 : Option Nat) (s : gS) (r : (Unit ⊕ String)) (s' : gS) (h : f_X1_requireArgument (gk E) F a1 a2 s = some (r, s')) : gCT E 9 yX1_requireArgument (ws_ yX1_requireArgument cX1_requireArgument 2 none) [vI a1, vR a2] s (gOv r) s' := by
  refine gCT_of2 (fun h => absurd h (by decide)) (plainFor_of_name (by decide)) (Nat.le_of_ble_eq_true rfl) ?_
  exact gw_sub [0, 1] rfl (w_X1_requireArgument_0 _ _ _ h)
def dkwX3_free_3 : List UInt8 := [1, 181, 0, 80, 28, 172]
abbrev dktX3_free_3 : List UInt8 := dkwX3_free_3 ++ []
def dkwX3_free_2 : List UInt8 := [25, 4, 180, 1, 84, 178, 0, 168, 83, 42, 180, 0, 34, 25, 4, 180, 1, 84, 27, 79, 167, 255, 212, 42]
abbrev dktX3_free_2 : List UInt8 := dkwX3_free_2 ++ dktX3_free_3
def dkwX3_free_1 : List UInt8 := [185, 1, 74, 1, 0, 153, 0, 41, 45, 185, 1, 79, 1, 0, 192, 1, 82, 58, 4, 42, 180, 0, 20]
abbrev dktX3_free_1 : List UInt8 := dkwX3_free_1 ++ dktX3_free_2
def dkwX3_free_0 : List UInt8 := [42, 180, 0, 80, 180, 0, 216, 182, 1, 69, 61, 42, 180, 0, 80, 180, 0, 216, 182, 1, 70, 78, 45]
abbrev dktX3_free_0 : List UInt8 := dkwX3_free_0 ++ dktX3_free_1
theorem dksX3_free_0 : cX3_free.data.toList.drop 0 = dktX3_free_0 := by decide +kernel
theorem dksX3_free_1 : cX3_free.data.toList.drop 23 = dktX3_free_1 := dk_seg dksX3_free_0 23 rfl rfl
theorem dksX3_free_2 : cX3_free.data.toList.drop 46 = dktX3_free_2 := dk_seg dksX3_free_1 23 rfl rfl
theorem dksX3_free_3 : cX3_free.data.toList.drop 70 = dktX3_free_3 := dk_seg dksX3_free_2 24 rfl rfl
theorem dX3_free_0 : decode cX3_free 0 = .ok (.aload_n 0, 1) := dk_42 (dk_at dksX3_free_0 0 rfl rfl)
theorem dX3_free_1 : decode cX3_free 1 = .ok (.getfield 80, 3) := dk_180 0 80 (dk_at dksX3_free_0 1 rfl rfl)
theorem dX3_free_4 : decode cX3_free 4 = .ok (.getfield 216, 3) := dk_180 0 216 (dk_at dksX3_free_0 4 rfl rfl)
theorem dX3_free_7 : decode cX3_free 7 = .ok (.invokevirtual 325, 3) := dk_182 1 69 (dk_at dksX3_free_0 7 rfl rfl)
theorem dX3_free_10 : decode cX3_free 10 = .ok (.istore_n 2, 1) := dk_61 (dk_at dksX3_free_0 10 rfl rfl)
theorem dX3_free_11 : decode cX3_free 11 = .ok (.aload_n 0, 1) := dk_42 (dk_at dksX3_free_0 11 rfl rfl)
theorem dX3_free_12 : decode cX3_free 12 = .ok (.getfield 80, 3) := dk_180 0 80 (dk_at dksX3_free_0 12 rfl rfl)
theorem dX3_free_15 : decode cX3_free 15 = .ok (.getfield 216, 3) := dk_180 0 216 (dk_at dksX3_free_0 15 rfl rfl)
theorem dX3_free_18 : decode cX3_free 18 = .ok (.invokevirtual 326, 3) := dk_182 1 70 (dk_at dksX3_free_0 18 rfl rfl)
theorem dX3_free_21 : decode cX3_free 21 = .ok (.astore_n 3, 1) := dk_78 (dk_at dksX3_free_0 21 rfl rfl)
theorem dX3_free_22 : decode cX3_free 22 = .ok (.aload_n 3, 1) := dk_45 (dk_at dksX3_free_0 22 rfl rfl)
theorem dX3_free_23 : decode cX3_free 23 = .ok (.invokeinterface 330 1, 5) := by decide +kernel
theorem dX3_free_28 : decode cX3_free 28 = .ok (.ifCond .eq 41, 3) := dk_153 0 41 (dk_at dksX3_free_1 5 rfl rfl)
theorem dX3_free_31 : decode cX3_free 31 = .ok (.aload_n 3, 1) := dk_45 (dk_at dksX3_free_1 8 rfl rfl)
theorem dX3_free_32 : decode cX3_free 32 = .ok (.invokeinterface 335 1, 5) := by decide +kernel
theorem dX3_free_37 : decode cX3_free 37 = .ok (.checkcast 338, 3) := dk_192 1 82 (dk_at dksX3_free_1 14 rfl rfl)
theorem dX3_free_40 : decode cX3_free 40 = .ok (.astore 4, 2) := dk_58 4 (dk_at dksX3_free_1 17 rfl rfl)
theorem dX3_free_42 : decode cX3_free 42 = .ok (.aload_n 0, 1) := dk_42 (dk_at dksX3_free_1 19 rfl rfl)
theorem dX3_free_43 : decode cX3_free 43 = .ok (.getfield 20, 3) := dk_180 0 20 (dk_at dksX3_free_1 20 rfl rfl)
theorem dX3_free_46 : decode cX3_free 46 = .ok (.aload 4, 2) := dk_25 4 (dk_at dksX3_free_2 0 rfl rfl)
theorem dX3_free_48 : decode cX3_free 48 = .ok (.getfield 340, 3) := dk_180 1 84 (dk_at dksX3_free_2 2 rfl rfl)
theorem dX3_free_51 : decode cX3_free 51 = .ok (.getstatic 168, 3) := dk_178 0 168 (dk_at dksX3_free_2 5 rfl rfl)
theorem dX3_free_54 : decode cX3_free 54 = .ok (.aastore, 1) := dk_83 (dk_at dksX3_free_2 8 rfl rfl)
theorem dX3_free_55 : decode cX3_free 55 = .ok (.aload_n 0, 1) := dk_42 (dk_at dksX3_free_2 9 rfl rfl)
theorem dX3_free_56 : decode cX3_free 56 = .ok (.getfield 34, 3) := dk_180 0 34 (dk_at dksX3_free_2 10 rfl rfl)
theorem dX3_free_59 : decode cX3_free 59 = .ok (.aload 4, 2) := dk_25 4 (dk_at dksX3_free_2 13 rfl rfl)
theorem dX3_free_61 : decode cX3_free 61 = .ok (.getfield 340, 3) := dk_180 1 84 (dk_at dksX3_free_2 15 rfl rfl)
theorem dX3_free_64 : decode cX3_free 64 = .ok (.iload_n 1, 1) := dk_27 (dk_at dksX3_free_2 18 rfl rfl)
theorem dX3_free_65 : decode cX3_free 65 = .ok (.iastore, 1) := dk_79 (dk_at dksX3_free_2 19 rfl rfl)
theorem dX3_free_66 : decode cX3_free 66 = .ok (.goto (-44), 3) := dk_167 255 212 (dk_at dksX3_free_2 20 rfl rfl)
theorem dX3_free_69 : decode cX3_free 69 = .ok (.aload_n 0, 1) := dk_42 (dk_at dksX3_free_2 23 rfl rfl)
theorem dX3_free_70 : decode cX3_free 70 = .ok (.aconst_null, 1) := dk_1 (dk_at dksX3_free_3 0 rfl rfl)
theorem dX3_free_71 : decode cX3_free 71 = .ok (.putfield 80, 3) := dk_181 0 80 (dk_at dksX3_free_3 1 rfl rfl)
theorem dX3_free_74 : decode cX3_free 74 = .ok (.iload_n 2, 1) := dk_28 (dk_at dksX3_free_3 4 rfl rfl)
theorem dX3_free_75 : decode cX3_free 75 = .ok (.ireturn, 1) := dk_172 (dk_at dksX3_free_3 5 rfl rfl)
/-! PageGarden$Garden.free(I)I -/
abbrev M_X3_free (z0 n0 : Nat) (s' : gS) : gM := (RX3, cX3_free, 5, (some FieldType.int), "free", [], 7, z0, n0, s'.2.1, s'.2.2)
abbrev W_X3_free (E : gE) (z0 n0 : Nat) (r : Int32) (s' : gS) (pc : Nat) (L : List (Nat × gV)) (st : List gV) (s : gS) : Prop := gW E (M_X3_free z0 n0 s') (gQm E (M_X3_free z0 n0 s') (.inl (some (vI r))) s') pc L st s
noncomputable def f_X3_free_22b (κ : gK) (F : Nat) (k22 : Option Nat → Int32 → Int32 → Option Nat → gS → Option (Int32 × gS)) (l0 : Option Nat) (l1 : Int32) (l2 : Int32) (l3 : Option Nat) (s : gS) : Option (Int32 × gS) :=
  gB1 (gck s l3 14) fun _ =>
  gB2 (f_J36_hasNext κ F l3  s) fun v2 s1 =>
  if v2 = 0 then
    gB1 (gpf κ s1 l0 7 6 (va_rf none)) fun s4 =>
    some (l2, s4)
  else
    gB1 (gck s1 l3 14) fun _ =>
    gB2 (f_J37_next κ F l3  s1) fun v6 s5 =>
    gB1 (gcc s5 v6 1) fun _ =>
    gB1 (gfR s5 l0 7 1) fun v9 =>
    gB1 (gfI s5 v6 1 0) fun v10 =>
    gB1 (gsR κ s5 v9 v10 (κ.2 2)) fun s11 =>
    gB1 (gfR s11 l0 7 3) fun v12 =>
    gB1 (gfI s11 v6 1 0) fun v13 =>
    gB1 (gsI κ s11 v12 v13 l1) fun s14 =>
    k22 l0 l1 l2 l3 s14
noncomputable def f_X3_free_22 (κ : gK) (F : Nat)  : Nat → Option Nat → Int32 → Int32 → Option Nat → gS → Option (Int32 × gS)
  | 0 => fun _ _ _ _ _ => none
  | n + 1 => f_X3_free_22b κ F  (f_X3_free_22 κ F  n)
set_option maxHeartbeats 4000000 in
theorem w_X3_free_22b {E : gE} {F z0 n0 : Nat} {r : Int32} {s' : gS} {k22 : Option Nat → Int32 → Int32 → Option Nat → gS → Option (Int32 × gS)} (hk22 : ∀ (l0 : Option Nat) (l1 : Int32) (l2 : Int32) (l3 : Option Nat) (s : gS), k22 l0 l1 l2 l3 s = some (r, s') → W_X3_free E z0 n0 r s' 22 [(0, vR l0), (1, vI l1), (2, vI l2), (3, vR l3)] [] s) : ∀ (l0 : Option Nat) (l1 : Int32) (l2 : Int32) (l3 : Option Nat)  (s : gS), f_X3_free_22b (gk E) F k22 l0 l1 l2 l3 s = some (r, s') → W_X3_free E z0 n0 r s' 22 [(0, vR l0), (1, vI l1), (2, vI l2), (3, vR l3)] [] s := by
  intro l0 l1 l2 l3 s hB
  unfold f_X3_free_22b at hB
  refine gw_aload_n 3 rfl dX3_free_22 ?_
  obtain ⟨u0, hu3, hB⟩ := gB1_some hB
  obtain ⟨v2, s1, hv2, hB⟩ := gB2_some hB
  refine gw_callF (C := "java/util/LinkedHashMap$LinkedKeyIterator") (x := ⟨"java/util/Iterator", "hasNext", "()Z"⟩) (y := yJ36_hasNext) (lw_app (lw_in (([Cond.methodLink "PageGarden$Garden" 330 ⟨"java/util/Iterator", "hasNext", "()Z"⟩, Cond.selects "java/util/LinkedHashMap$LinkedKeyIterator" ⟨"java/util/Iterator", "hasNext", "()Z"⟩ yJ36_hasNext, Cond.instanceMethod yJ36_hasNext, Cond.initialized yJ36_hasNext.cls] : List Cond)) [2265, 1911, 1913, 155] (by decide +kernel) (by decide +kernel)) (lw_meth q1915)) q1903 q1902 q1914 q1912 q1910 (show _ ∧ _ ∧ _ = some 0 from by decide +kernel) gcl14 hu3 (As := []) (rest := []) (m_J36_hasNext _ _ _ _ hv2) (Nat.le_of_ble_eq_true rfl) (Nat.le_of_ble_eq_true rfl) rfl (Nat.le_of_ble_eq_true rfl) dX3_free_23 (gCont_i ?_)
  refine gw_if_eq (tgt := 69) dX3_free_28 (by decide) (fun hcnd => ?_) (fun hcnd => ?_)
  · rw [if_pos hcnd] at hB
    refine gw_aload_n 0 rfl dX3_free_69 ?_
    refine gw_null dX3_free_70 ?_
    obtain ⟨s4, hs4, hB⟩ := gB1_some hB
    refine gw_putf (C := RX3) (T := TX3) (N := 9) (k := 6) tyX3 tyX3_ok nmX3 gcl7 (by decide) in_X3 q289 rfl (tyX3_ok 6 (by decide)) (gNF_o _ _) hs4 dX3_free_71 ?_
    refine gw_iload_n 2 rfl dX3_free_74 ?_
    obtain ⟨rfl, rfl⟩ := Prod.mk.inj (Option.some.inj hB)
    exact gw_iret rfl rfl rfl dX3_free_75
  · rw [if_neg hcnd] at hB
    refine gw_aload_n 3 rfl dX3_free_31 ?_
    obtain ⟨u0, hu7, hB⟩ := gB1_some hB
    obtain ⟨v6, s5, hv6, hB⟩ := gB2_some hB
    refine gw_callF (C := "java/util/LinkedHashMap$LinkedKeyIterator") (x := ⟨"java/util/Iterator", "next", "()Ljava/lang/Object;"⟩) (y := yJ37_next) (lw_app (lw_in (([Cond.methodLink "PageGarden$Garden" 335 ⟨"java/util/Iterator", "next", "()Ljava/lang/Object;"⟩, Cond.selects "java/util/LinkedHashMap$LinkedKeyIterator" ⟨"java/util/Iterator", "next", "()Ljava/lang/Object;"⟩ yJ37_next, Cond.instanceMethod yJ37_next, Cond.initialized yJ37_next.cls] : List Cond)) [2267, 1931, 1933, 156] (by decide +kernel) (by decide +kernel)) (lw_meth q1935)) q1919 q1918 q1934 q1932 q1910 (show _ ∧ _ ∧ _ = some 0 from by decide +kernel) gcl14 hu7 (As := []) (rest := []) (m_J37_next _ _ _ _ hv6) (Nat.le_of_ble_eq_true rfl) (Nat.le_of_ble_eq_true rfl) rfl (Nat.le_of_ble_eq_true rfl) dX3_free_32 (gCont_i ?_)
    obtain ⟨u0, hu8, hB⟩ := gB1_some hB
    refine gw_cast (C := RX2) gcl1 hu8 q2268 (Or.inl rfl) dX3_free_37 ?_
    refine gw_astore (L' := [(4, vR v6), (0, vR l0), (1, vI l1), (2, vI l2), (3, vR l3)]) (Nat.le_of_ble_eq_true rfl) rfl dX3_free_40 ?_
    refine gw_aload_n 1 rfl dX3_free_42 ?_
    obtain ⟨v9, hv9, hB⟩ := gB1_some hB
    refine gw_getf (C := RX3) (T := TX3) (N := 9) (k := 1) gcl7 (by decide) in_X3 q282 (gfR_spec hv9) dX3_free_43 ?_
    refine gw_aload 0 rfl dX3_free_46 ?_
    obtain ⟨v10, hv10, hB⟩ := gB1_some hB
    refine gw_getfN (C := RX2) (T := TX2) (N := 1) (k := 0) gcl1 (by decide) in_X2 q185 (gfI_spec hv10) dX3_free_48 ?_
    refine gw_gets (i := 2) (by decide) q1315 dX3_free_51 ?_
    obtain ⟨s11, hs11, hB⟩ := gB1_some hB
    refine gw_aastore hs11 dX3_free_54 ?_
    refine gw_aload_n 1 rfl dX3_free_55 ?_
    obtain ⟨v12, hv12, hB⟩ := gB1_some hB
    refine gw_getf (C := RX3) (T := TX3) (N := 9) (k := 3) gcl7 (by decide) in_X3 q285 (gfR_spec hv12) dX3_free_56 ?_
    refine gw_aload 0 rfl dX3_free_59 ?_
    obtain ⟨v13, hv13, hB⟩ := gB1_some hB
    refine gw_getfN (C := RX2) (T := TX2) (N := 1) (k := 0) gcl1 (by decide) in_X2 q185 (gfI_spec hv13) dX3_free_61 ?_
    refine gw_iload_n 2 rfl dX3_free_64 ?_
    obtain ⟨s14, hs14, hB⟩ := gB1_some hB
    refine gw_iastore hs14 dX3_free_65 ?_
    refine gw_goto (tgt := 22) dX3_free_66 (by decide) ?_
    exact gw_sub [1, 2, 3, 4] rfl (hk22 _ _ _ _ _ hB)
theorem w_X3_free_22 {E : gE} {F z0 n0 : Nat} {r : Int32} {s' : gS}   : ∀ (n : Nat) (l0 : Option Nat) (l1 : Int32) (l2 : Int32) (l3 : Option Nat)  (s : gS), f_X3_free_22 (gk E) F  n l0 l1 l2 l3 s = some (r, s') → W_X3_free E z0 n0 r s' 22 [(0, vR l0), (1, vI l1), (2, vI l2), (3, vR l3)] [] s := by
  intro n
  induction n with
  | zero => intro l0 l1 l2 l3 s hB; cases hB
  | succ n ih => intro l0 l1 l2 l3 s hB; exact w_X3_free_22b ih l0 l1 l2 l3 s hB
noncomputable def f_X3_free_0 (κ : gK) (F : Nat)  (l0 : Option Nat) (l1 : Int32) (s : gS) : Option (Int32 × gS) :=
  gB1 (gfR s l0 7 6) fun v1 =>
  gB1 (gfR s v1 6 1) fun v2 =>
  gB1 (gck s v2 12) fun _ =>
  gB2 (f_J27_size κ F v2  s) fun v4 s3 =>
  gB1 (gfR s3 l0 7 6) fun v6 =>
  gB1 (gfR s3 v6 6 1) fun v7 =>
  gB1 (gck s3 v7 12) fun _ =>
  gB2 (f_J27_iterator κ F v7  s3) fun v9 s8 =>
  f_X3_free_22 κ F  F l0 l1 v4 v9 s8
set_option maxHeartbeats 4000000 in
theorem w_X3_free_0 {E : gE} {F z0 n0 : Nat} {r : Int32} {s' : gS}   : ∀ (l0 : Option Nat) (l1 : Int32)  (s : gS), f_X3_free_0 (gk E) F  l0 l1 s = some (r, s') → W_X3_free E z0 n0 r s' 0 [(0, vR l0), (1, vI l1)] [] s := by
  intro l0 l1 s hB
  unfold f_X3_free_0 at hB
  refine gw_aload_n 0 rfl dX3_free_0 ?_
  obtain ⟨v1, hv1, hB⟩ := gB1_some hB
  refine gw_getf (C := RX3) (T := TX3) (N := 9) (k := 6) gcl7 (by decide) in_X3 q289 (gfR_spec hv1) dX3_free_1 ?_
  obtain ⟨v2, hv2, hB⟩ := gB1_some hB
  refine gw_getfN (C := RX7) (T := TX7) (N := 3) (k := 1) gcl6 (by decide) in_X7 q1789 (gfR_spec hv2) dX3_free_4 ?_
  obtain ⟨u0, hu5, hB⟩ := gB1_some hB
  obtain ⟨v4, s3, hv4, hB⟩ := gB2_some hB
  refine gw_callU (C := "java/util/LinkedHashSet") (owner := "java/util/HashSet") (x := ⟨"java/util/LinkedHashSet", "size", "()I"⟩) (y := yJ27_size) (lw_app (lw_in (([Cond.methodLink "PageGarden$Garden" 325 ⟨"java/util/LinkedHashSet", "size", "()I"⟩, Cond.sameMethod "java/util/LinkedHashSet" "java/util/HashSet" "size" "()I", Cond.selects "java/util/LinkedHashSet" ⟨"java/util/LinkedHashSet", "size", "()I"⟩ yJ27_size, Cond.instanceMethod yJ27_size, Cond.initialized "java/util/HashSet"] : List Cond)) [2262, 2248, 2250, 2251, 146] (by decide +kernel) (by decide +kernel)) (lw_meth q2252)) rfl (show _ ∧ _ ∧ _ = some 0 from by decide +kernel) gcl12 hu5 (As := []) (rest := []) (m_J27_size _ _ _ _ hv4) (Nat.le_of_ble_eq_true rfl) (Nat.le_of_ble_eq_true rfl) rfl (Nat.le_of_ble_eq_true rfl) dX3_free_7 (gCont_i ?_)
  refine gw_istore_n (L' := [(2, vI v4), (0, vR l0), (1, vI l1)]) (Nat.le_of_ble_eq_true rfl) rfl dX3_free_10 ?_
  refine gw_aload_n 1 rfl dX3_free_11 ?_
  obtain ⟨v6, hv6, hB⟩ := gB1_some hB
  refine gw_getf (C := RX3) (T := TX3) (N := 9) (k := 6) gcl7 (by decide) in_X3 q289 (gfR_spec hv6) dX3_free_12 ?_
  obtain ⟨v7, hv7, hB⟩ := gB1_some hB
  refine gw_getfN (C := RX7) (T := TX7) (N := 3) (k := 1) gcl6 (by decide) in_X7 q1789 (gfR_spec hv7) dX3_free_15 ?_
  obtain ⟨u0, hu10, hB⟩ := gB1_some hB
  obtain ⟨v9, s8, hv9, hB⟩ := gB2_some hB
  refine gw_callU (C := "java/util/LinkedHashSet") (owner := "java/util/HashSet") (x := ⟨"java/util/LinkedHashSet", "iterator", "()Ljava/util/Iterator;"⟩) (y := yJ27_iterator) (lw_app (lw_in (([Cond.methodLink "PageGarden$Garden" 326 ⟨"java/util/LinkedHashSet", "iterator", "()Ljava/util/Iterator;"⟩, Cond.sameMethod "java/util/LinkedHashSet" "java/util/HashSet" "iterator" "()Ljava/util/Iterator;", Cond.selects "java/util/LinkedHashSet" ⟨"java/util/LinkedHashSet", "iterator", "()Ljava/util/Iterator;"⟩ yJ27_iterator, Cond.instanceMethod yJ27_iterator, Cond.initialized "java/util/HashSet"] : List Cond)) [2263, 1800, 1802, 1803, 146] (by decide +kernel) (by decide +kernel)) (lw_meth q1804)) rfl (show _ ∧ _ ∧ _ = some 0 from by decide +kernel) gcl12 hu10 (As := []) (rest := []) (m_J27_iterator _ _ _ _ hv9) (Nat.le_of_ble_eq_true rfl) (Nat.le_of_ble_eq_true rfl) rfl (Nat.le_of_ble_eq_true rfl) dX3_free_18 (gCont_i ?_)
  refine gw_astore_n (L' := [(3, vR v9), (2, vI v4), (0, vR l0), (1, vI l1)]) (Nat.le_of_ble_eq_true rfl) rfl dX3_free_21 ?_
  exact gw_sub [2, 3, 1, 0] rfl (w_X3_free_22  F _ _ _ _ _ hB)
noncomputable def f_X3_free (κ : gK) (F : Nat) (a0 : Option Nat) (a1 : Int32) (s : gS) : Option (Int32 × gS) := f_X3_free_0 κ F a0 a1 s
theorem m_X3_free {E : gE} {F : Nat} (a0 : Option Nat) (a1 : Int32) (s : gS) (r : Int32) (s' : gS) (h : f_X3_free (gk E) F a0 a1 s = some (r, s')) : gCT E 7 yX3_free (ws_ yX3_free cX3_free 5 (some FieldType.int)) [vR a0, vI a1] s (.inl (some (vI r))) s' := by
  refine gCT_of2 (fun h => absurd h (by decide)) (plainFor_of_name (by decide)) (Nat.le_of_ble_eq_true rfl) ?_
  exact gw_sub [0, 1] rfl (w_X3_free_0 _ _ _ h)
def dkwX3_commit_5 : List UInt8 := [181, 0, 145, 42, 89, 180, 0, 89, 4, 96, 181, 0, 89, 42, 29, 182, 1, 97, 172]
abbrev dktX3_commit_5 : List UInt8 := dkwX3_commit_5 ++ []
def dkwX3_commit_4 : List UInt8 := [42, 89, 180, 0, 93, 4, 96, 181, 0, 93, 42, 182, 1, 87, 54, 4, 17, 252, 24, 172, 44, 4]
abbrev dktX3_commit_4 : List UInt8 := dkwX3_commit_4 ++ dktX3_commit_5
def dkwX3_commit_3 : List UInt8 := [164, 0, 19, 44, 29, 181, 0, 149, 44, 42, 180, 0, 80, 180, 0, 230, 181, 0, 223, 27, 6, 162, 0, 23]
abbrev dktX3_commit_3 : List UInt8 := dkwX3_commit_3 ++ dktX3_commit_4
def dkwX3_commit_2 : List UInt8 := [77, 42, 182, 0, 155, 180, 0, 149, 4, 96, 62, 27, 158, 0, 8, 44, 3, 181, 0, 145, 27, 4]
abbrev dktX3_commit_2 : List UInt8 := dkwX3_commit_2 ++ dktX3_commit_3
def dkwX3_commit_1 : List UInt8 := [182, 1, 94, 154, 0, 10, 42, 1, 181, 0, 80, 3, 172, 42, 180, 0, 38, 4, 42, 182, 0, 152, 100, 50]
abbrev dktX3_commit_1 : List UInt8 := dkwX3_commit_1 ++ dktX3_commit_2
def dkwX3_commit_0 : List UInt8 := [27, 133, 9, 20, 1, 90, 184, 1, 25, 19, 1, 92, 184, 1, 15, 42, 182, 0, 227, 42, 180, 0, 80]
abbrev dktX3_commit_0 : List UInt8 := dkwX3_commit_0 ++ dktX3_commit_1
theorem dksX3_commit_0 : cX3_commit.data.toList.drop 0 = dktX3_commit_0 := by decide +kernel
theorem dksX3_commit_1 : cX3_commit.data.toList.drop 23 = dktX3_commit_1 := dk_seg dksX3_commit_0 23 rfl rfl
theorem dksX3_commit_2 : cX3_commit.data.toList.drop 47 = dktX3_commit_2 := dk_seg dksX3_commit_1 24 rfl rfl
theorem dksX3_commit_3 : cX3_commit.data.toList.drop 69 = dktX3_commit_3 := dk_seg dksX3_commit_2 22 rfl rfl
theorem dksX3_commit_4 : cX3_commit.data.toList.drop 93 = dktX3_commit_4 := dk_seg dksX3_commit_3 24 rfl rfl
theorem dksX3_commit_5 : cX3_commit.data.toList.drop 115 = dktX3_commit_5 := dk_seg dksX3_commit_4 22 rfl rfl
theorem dX3_commit_0 : decode cX3_commit 0 = .ok (.iload_n 1, 1) := dk_27 (dk_at dksX3_commit_0 0 rfl rfl)
theorem dX3_commit_1 : decode cX3_commit 1 = .ok (.i2l, 1) := dk_133 (dk_at dksX3_commit_0 1 rfl rfl)
theorem dX3_commit_2 : decode cX3_commit 2 = .ok (.lconst 0, 1) := dk_9 (dk_at dksX3_commit_0 2 rfl rfl)
theorem dX3_commit_3 : decode cX3_commit 3 = .ok (.ldc2_w 346, 3) := dk_20 1 90 (dk_at dksX3_commit_0 3 rfl rfl)
theorem dX3_commit_6 : decode cX3_commit 6 = .ok (.invokestatic 281, 3) := dk_184 1 25 (dk_at dksX3_commit_0 6 rfl rfl)
theorem dX3_commit_9 : decode cX3_commit 9 = .ok (.ldc_w 348, 3) := dk_19 1 92 (dk_at dksX3_commit_0 9 rfl rfl)
theorem dX3_commit_12 : decode cX3_commit 12 = .ok (.invokestatic 271, 3) := dk_184 1 15 (dk_at dksX3_commit_0 12 rfl rfl)
theorem dX3_commit_15 : decode cX3_commit 15 = .ok (.aload_n 0, 1) := dk_42 (dk_at dksX3_commit_0 15 rfl rfl)
theorem dX3_commit_16 : decode cX3_commit 16 = .ok (.invokevirtual 227, 3) := dk_182 0 227 (dk_at dksX3_commit_0 16 rfl rfl)
theorem dX3_commit_19 : decode cX3_commit 19 = .ok (.aload_n 0, 1) := dk_42 (dk_at dksX3_commit_0 19 rfl rfl)
theorem dX3_commit_20 : decode cX3_commit 20 = .ok (.getfield 80, 3) := dk_180 0 80 (dk_at dksX3_commit_0 20 rfl rfl)
theorem dX3_commit_23 : decode cX3_commit 23 = .ok (.invokevirtual 350, 3) := dk_182 1 94 (dk_at dksX3_commit_1 0 rfl rfl)
theorem dX3_commit_26 : decode cX3_commit 26 = .ok (.ifCond .ne 10, 3) := dk_154 0 10 (dk_at dksX3_commit_1 3 rfl rfl)
theorem dX3_commit_29 : decode cX3_commit 29 = .ok (.aload_n 0, 1) := dk_42 (dk_at dksX3_commit_1 6 rfl rfl)
theorem dX3_commit_30 : decode cX3_commit 30 = .ok (.aconst_null, 1) := dk_1 (dk_at dksX3_commit_1 7 rfl rfl)
theorem dX3_commit_31 : decode cX3_commit 31 = .ok (.putfield 80, 3) := dk_181 0 80 (dk_at dksX3_commit_1 8 rfl rfl)
theorem dX3_commit_34 : decode cX3_commit 34 = .ok (.iconst 0, 1) := dk_3 (dk_at dksX3_commit_1 11 rfl rfl)
theorem dX3_commit_35 : decode cX3_commit 35 = .ok (.ireturn, 1) := dk_172 (dk_at dksX3_commit_1 12 rfl rfl)
theorem dX3_commit_36 : decode cX3_commit 36 = .ok (.aload_n 0, 1) := dk_42 (dk_at dksX3_commit_1 13 rfl rfl)
theorem dX3_commit_37 : decode cX3_commit 37 = .ok (.getfield 38, 3) := dk_180 0 38 (dk_at dksX3_commit_1 14 rfl rfl)
theorem dX3_commit_40 : decode cX3_commit 40 = .ok (.iconst 1, 1) := dk_4 (dk_at dksX3_commit_1 17 rfl rfl)
theorem dX3_commit_41 : decode cX3_commit 41 = .ok (.aload_n 0, 1) := dk_42 (dk_at dksX3_commit_1 18 rfl rfl)
theorem dX3_commit_42 : decode cX3_commit 42 = .ok (.invokevirtual 152, 3) := dk_182 0 152 (dk_at dksX3_commit_1 19 rfl rfl)
theorem dX3_commit_45 : decode cX3_commit 45 = .ok (.isub, 1) := dk_100 (dk_at dksX3_commit_1 22 rfl rfl)
theorem dX3_commit_46 : decode cX3_commit 46 = .ok (.aaload, 1) := dk_50 (dk_at dksX3_commit_1 23 rfl rfl)
theorem dX3_commit_47 : decode cX3_commit 47 = .ok (.astore_n 2, 1) := dk_77 (dk_at dksX3_commit_2 0 rfl rfl)
theorem dX3_commit_48 : decode cX3_commit 48 = .ok (.aload_n 0, 1) := dk_42 (dk_at dksX3_commit_2 1 rfl rfl)
theorem dX3_commit_49 : decode cX3_commit 49 = .ok (.invokevirtual 155, 3) := dk_182 0 155 (dk_at dksX3_commit_2 2 rfl rfl)
theorem dX3_commit_52 : decode cX3_commit 52 = .ok (.getfield 149, 3) := dk_180 0 149 (dk_at dksX3_commit_2 5 rfl rfl)
theorem dX3_commit_55 : decode cX3_commit 55 = .ok (.iconst 1, 1) := dk_4 (dk_at dksX3_commit_2 8 rfl rfl)
theorem dX3_commit_56 : decode cX3_commit 56 = .ok (.iadd, 1) := dk_96 (dk_at dksX3_commit_2 9 rfl rfl)
theorem dX3_commit_57 : decode cX3_commit 57 = .ok (.istore_n 3, 1) := dk_62 (dk_at dksX3_commit_2 10 rfl rfl)
theorem dX3_commit_58 : decode cX3_commit 58 = .ok (.iload_n 1, 1) := dk_27 (dk_at dksX3_commit_2 11 rfl rfl)
theorem dX3_commit_59 : decode cX3_commit 59 = .ok (.ifCond .le 8, 3) := dk_158 0 8 (dk_at dksX3_commit_2 12 rfl rfl)
theorem dX3_commit_62 : decode cX3_commit 62 = .ok (.aload_n 2, 1) := dk_44 (dk_at dksX3_commit_2 15 rfl rfl)
theorem dX3_commit_63 : decode cX3_commit 63 = .ok (.iconst 0, 1) := dk_3 (dk_at dksX3_commit_2 16 rfl rfl)
theorem dX3_commit_64 : decode cX3_commit 64 = .ok (.putfield 145, 3) := dk_181 0 145 (dk_at dksX3_commit_2 17 rfl rfl)
theorem dX3_commit_67 : decode cX3_commit 67 = .ok (.iload_n 1, 1) := dk_27 (dk_at dksX3_commit_2 20 rfl rfl)
theorem dX3_commit_68 : decode cX3_commit 68 = .ok (.iconst 1, 1) := dk_4 (dk_at dksX3_commit_2 21 rfl rfl)
theorem dX3_commit_69 : decode cX3_commit 69 = .ok (.if_icmp .le 19, 3) := dk_164 0 19 (dk_at dksX3_commit_3 0 rfl rfl)
theorem dX3_commit_72 : decode cX3_commit 72 = .ok (.aload_n 2, 1) := dk_44 (dk_at dksX3_commit_3 3 rfl rfl)
theorem dX3_commit_73 : decode cX3_commit 73 = .ok (.iload_n 3, 1) := dk_29 (dk_at dksX3_commit_3 4 rfl rfl)
theorem dX3_commit_74 : decode cX3_commit 74 = .ok (.putfield 149, 3) := dk_181 0 149 (dk_at dksX3_commit_3 5 rfl rfl)
theorem dX3_commit_77 : decode cX3_commit 77 = .ok (.aload_n 2, 1) := dk_44 (dk_at dksX3_commit_3 8 rfl rfl)
theorem dX3_commit_78 : decode cX3_commit 78 = .ok (.aload_n 0, 1) := dk_42 (dk_at dksX3_commit_3 9 rfl rfl)
theorem dX3_commit_79 : decode cX3_commit 79 = .ok (.getfield 80, 3) := dk_180 0 80 (dk_at dksX3_commit_3 10 rfl rfl)
theorem dX3_commit_82 : decode cX3_commit 82 = .ok (.getfield 230, 3) := dk_180 0 230 (dk_at dksX3_commit_3 13 rfl rfl)
theorem dX3_commit_85 : decode cX3_commit 85 = .ok (.putfield 223, 3) := dk_181 0 223 (dk_at dksX3_commit_3 16 rfl rfl)
theorem dX3_commit_88 : decode cX3_commit 88 = .ok (.iload_n 1, 1) := dk_27 (dk_at dksX3_commit_3 19 rfl rfl)
theorem dX3_commit_89 : decode cX3_commit 89 = .ok (.iconst 3, 1) := dk_6 (dk_at dksX3_commit_3 20 rfl rfl)
theorem dX3_commit_90 : decode cX3_commit 90 = .ok (.if_icmp .ge 23, 3) := dk_162 0 23 (dk_at dksX3_commit_3 21 rfl rfl)
theorem dX3_commit_93 : decode cX3_commit 93 = .ok (.aload_n 0, 1) := dk_42 (dk_at dksX3_commit_4 0 rfl rfl)
theorem dX3_commit_94 : decode cX3_commit 94 = .ok (.dup, 1) := dk_89 (dk_at dksX3_commit_4 1 rfl rfl)
theorem dX3_commit_95 : decode cX3_commit 95 = .ok (.getfield 93, 3) := dk_180 0 93 (dk_at dksX3_commit_4 2 rfl rfl)
theorem dX3_commit_98 : decode cX3_commit 98 = .ok (.iconst 1, 1) := dk_4 (dk_at dksX3_commit_4 5 rfl rfl)
theorem dX3_commit_99 : decode cX3_commit 99 = .ok (.iadd, 1) := dk_96 (dk_at dksX3_commit_4 6 rfl rfl)
theorem dX3_commit_100 : decode cX3_commit 100 = .ok (.putfield 93, 3) := dk_181 0 93 (dk_at dksX3_commit_4 7 rfl rfl)
theorem dX3_commit_103 : decode cX3_commit 103 = .ok (.aload_n 0, 1) := dk_42 (dk_at dksX3_commit_4 10 rfl rfl)
theorem dX3_commit_104 : decode cX3_commit 104 = .ok (.invokevirtual 343, 3) := dk_182 1 87 (dk_at dksX3_commit_4 11 rfl rfl)
theorem dX3_commit_107 : decode cX3_commit 107 = .ok (.istore 4, 2) := dk_54 4 (dk_at dksX3_commit_4 14 rfl rfl)
theorem dX3_commit_109 : decode cX3_commit 109 = .ok (.sipush (-1000), 3) := dk_17 252 24 (dk_at dksX3_commit_4 16 rfl rfl)
theorem dX3_commit_112 : decode cX3_commit 112 = .ok (.ireturn, 1) := dk_172 (dk_at dksX3_commit_4 19 rfl rfl)
theorem dX3_commit_113 : decode cX3_commit 113 = .ok (.aload_n 2, 1) := dk_44 (dk_at dksX3_commit_4 20 rfl rfl)
theorem dX3_commit_114 : decode cX3_commit 114 = .ok (.iconst 1, 1) := dk_4 (dk_at dksX3_commit_4 21 rfl rfl)
theorem dX3_commit_115 : decode cX3_commit 115 = .ok (.putfield 145, 3) := dk_181 0 145 (dk_at dksX3_commit_5 0 rfl rfl)
theorem dX3_commit_118 : decode cX3_commit 118 = .ok (.aload_n 0, 1) := dk_42 (dk_at dksX3_commit_5 3 rfl rfl)
theorem dX3_commit_119 : decode cX3_commit 119 = .ok (.dup, 1) := dk_89 (dk_at dksX3_commit_5 4 rfl rfl)
theorem dX3_commit_120 : decode cX3_commit 120 = .ok (.getfield 89, 3) := dk_180 0 89 (dk_at dksX3_commit_5 5 rfl rfl)
theorem dX3_commit_123 : decode cX3_commit 123 = .ok (.iconst 1, 1) := dk_4 (dk_at dksX3_commit_5 8 rfl rfl)
theorem dX3_commit_124 : decode cX3_commit 124 = .ok (.iadd, 1) := dk_96 (dk_at dksX3_commit_5 9 rfl rfl)
theorem dX3_commit_125 : decode cX3_commit 125 = .ok (.putfield 89, 3) := dk_181 0 89 (dk_at dksX3_commit_5 10 rfl rfl)
theorem dX3_commit_128 : decode cX3_commit 128 = .ok (.aload_n 0, 1) := dk_42 (dk_at dksX3_commit_5 13 rfl rfl)
theorem dX3_commit_129 : decode cX3_commit 129 = .ok (.iload_n 3, 1) := dk_29 (dk_at dksX3_commit_5 14 rfl rfl)
theorem dX3_commit_130 : decode cX3_commit 130 = .ok (.invokevirtual 353, 3) := dk_182 1 97 (dk_at dksX3_commit_5 15 rfl rfl)
theorem dX3_commit_133 : decode cX3_commit 133 = .ok (.ireturn, 1) := dk_172 (dk_at dksX3_commit_5 18 rfl rfl)
/-! PageGarden$Garden.commit(I)I -/
abbrev M_X3_commit (z0 n0 : Nat) (s' : gS) : gM := (RX3, cX3_commit, 5, (some FieldType.int), "commit", [], 11, z0, n0, s'.2.1, s'.2.2)
abbrev W_X3_commit (E : gE) (z0 n0 : Nat) (r : (Int32 ⊕ String)) (s' : gS) (pc : Nat) (L : List (Nat × gV)) (st : List gV) (s : gS) : Prop := gW E (M_X3_commit z0 n0 s') (gQm E (M_X3_commit z0 n0 s') (gOi r) s') pc L st s
noncomputable def f_X3_commit_88 (κ : gK) (F : Nat)  (l0 : Option Nat) (l1 : Int32) (l2 : Option Nat) (l3 : Int32) (s : gS) : Option ((Int32 ⊕ String) × gS) :=
  if (3 : Int32) ≤ l1 then
    gB1 (gok .boolean (1 : Int32)) fun _ =>
    gB1 (gpf κ s l2 4 2 (.int (1 : Int32))) fun s2 =>
    gB1 (gfI s2 l0 7 7) fun v3 =>
    gB1 (gpf κ s2 l0 7 7 (.int (v3 + (1 : Int32)))) fun s4 =>
    gB1 (gck s4 l0 7) fun _ =>
    gB2 (f_X3_free κ F l0 l3 s4) fun v6 s5 =>
    some ((.inl v6), s5)
  else
    gB1 (gfI s l0 7 8) fun v8 =>
    gB1 (gpf κ s l0 7 8 (.int (v8 + (1 : Int32)))) fun s9 =>
    gB1 (gck s9 l0 7) fun _ =>
    gB2 (f_X3_drop κ F l0  s9) fun v11 s10 =>
    some ((.inl (-1000 : Int32)), s10)
set_option maxHeartbeats 4000000 in
theorem w_X3_commit_88 {E : gE} {F z0 n0 : Nat} {r : (Int32 ⊕ String)} {s' : gS}   : ∀ (l0 : Option Nat) (l1 : Int32) (l2 : Option Nat) (l3 : Int32)  (s : gS), f_X3_commit_88 (gk E) F  l0 l1 l2 l3 s = some (r, s') → W_X3_commit E z0 n0 r s' 88 [(0, vR l0), (1, vI l1), (2, vR l2), (3, vI l3)] [] s := by
  intro l0 l1 l2 l3 s hB
  unfold f_X3_commit_88 at hB
  refine gw_iload_n 1 rfl dX3_commit_88 ?_
  refine gw_iconst (v := (3 : Int32)) (by decide) dX3_commit_89 ?_
  refine gw_icmp_ge (tgt := 113) dX3_commit_90 (by decide) (fun hcnd => ?_) (fun hcnd => ?_)
  · rw [if_pos hcnd] at hB
    refine gw_aload_n 2 rfl dX3_commit_113 ?_
    refine gw_iconst (v := (1 : Int32)) (by decide) dX3_commit_114 ?_
    obtain ⟨u0, hu1, hB⟩ := gB1_some hB
    obtain ⟨s2, hs2, hB⟩ := gB1_some hB
    refine gw_putfN (C := RX4) (T := TX4) (N := 3) (k := 2) tyX4 tyX4_ok nmX4 gcl4 (by decide) in_X4 q203 rfl (tyX4_ok 2 (by decide)) (gok_spec hu1) hs2 dX3_commit_115 ?_
    refine gw_aload_n 0 rfl dX3_commit_118 ?_
    refine gw_dup rfl dX3_commit_119 ?_
    obtain ⟨v3, hv3, hB⟩ := gB1_some hB
    refine gw_getf (C := RX3) (T := TX3) (N := 9) (k := 7) gcl7 (by decide) in_X3 q291 (gfI_spec hv3) dX3_commit_120 ?_
    refine gw_iconst (v := (1 : Int32)) (by decide) dX3_commit_123 ?_
    refine gw_iadd dX3_commit_124 ?_
    obtain ⟨s4, hs4, hB⟩ := gB1_some hB
    refine gw_putf (C := RX3) (T := TX3) (N := 9) (k := 7) tyX3 tyX3_ok nmX3 gcl7 (by decide) in_X3 q291 rfl (tyX3_ok 7 (by decide)) (gNF_i _) hs4 dX3_commit_125 ?_
    refine gw_aload_n 0 rfl dX3_commit_128 ?_
    refine gw_iload_n 3 rfl dX3_commit_129 ?_
    obtain ⟨u0, hu7, hB⟩ := gB1_some hB
    obtain ⟨v6, s5, hv6, hB⟩ := gB2_some hB
    refine gw_callV (y := yX3_free) (lw_V q2269 q2271 qs35 q110 q2272) hdV_X3_free gcl7 hu7 (As := [vI l3]) (rest := []) (m_X3_free _ _ _ _ _ hv6) (Nat.le_of_ble_eq_true rfl) (Nat.le_of_ble_eq_true rfl) rfl (Nat.le_of_ble_eq_true rfl) dX3_commit_130 (gCont_i ?_)
    obtain ⟨rfl, rfl⟩ := Prod.mk.inj (Option.some.inj hB)
    exact gw_iret rfl rfl rfl dX3_commit_133
  · rw [if_neg hcnd] at hB
    refine gw_aload_n 0 rfl dX3_commit_93 ?_
    refine gw_dup rfl dX3_commit_94 ?_
    obtain ⟨v8, hv8, hB⟩ := gB1_some hB
    refine gw_getf (C := RX3) (T := TX3) (N := 9) (k := 8) gcl7 (by decide) in_X3 q292 (gfI_spec hv8) dX3_commit_95 ?_
    refine gw_iconst (v := (1 : Int32)) (by decide) dX3_commit_98 ?_
    refine gw_iadd dX3_commit_99 ?_
    obtain ⟨s9, hs9, hB⟩ := gB1_some hB
    refine gw_putf (C := RX3) (T := TX3) (N := 9) (k := 8) tyX3 tyX3_ok nmX3 gcl7 (by decide) in_X3 q292 rfl (tyX3_ok 8 (by decide)) (gNF_i _) hs9 dX3_commit_100 ?_
    refine gw_aload_n 0 rfl dX3_commit_103 ?_
    obtain ⟨u0, hu12, hB⟩ := gB1_some hB
    obtain ⟨v11, s10, hv11, hB⟩ := gB2_some hB
    refine gw_callV (y := yX3_drop) (lw_V q2258 q2260 qs34 q110 q2261) hdV_X3_drop gcl7 hu12 (As := []) (rest := []) (m_X3_drop _ _ _ _ hv11) (Nat.le_of_ble_eq_true rfl) (Nat.le_of_ble_eq_true rfl) rfl (Nat.le_of_ble_eq_true rfl) dX3_commit_104 (gCont_i ?_)
    refine gw_istore (L' := [(4, vI v11), (0, vR l0), (1, vI l1), (2, vR l2), (3, vI l3)]) (Nat.le_of_ble_eq_true rfl) rfl dX3_commit_107 ?_
    refine gw_sipush (v := (-1000 : Int32)) (by decide) dX3_commit_109 ?_
    obtain ⟨rfl, rfl⟩ := Prod.mk.inj (Option.some.inj hB)
    exact gw_iret rfl rfl rfl dX3_commit_112
noncomputable def f_X3_commit_67 (κ : gK) (F : Nat)  (l0 : Option Nat) (l1 : Int32) (l2 : Option Nat) (l3 : Int32) (s : gS) : Option ((Int32 ⊕ String) × gS) :=
  if l1 ≤ (1 : Int32) then
    f_X3_commit_88 κ F  l0 l1 l2 l3 s
  else
    gB1 (gpf κ s l2 4 0 (.int l3)) fun s1 =>
    gB1 (gfR s1 l0 7 6) fun v2 =>
    gB1 (gfI s1 v2 6 2) fun v3 =>
    gB1 (gpf κ s1 l2 4 1 (.int v3)) fun s4 =>
    f_X3_commit_88 κ F  l0 l1 l2 l3 s4
set_option maxHeartbeats 4000000 in
theorem w_X3_commit_67 {E : gE} {F z0 n0 : Nat} {r : (Int32 ⊕ String)} {s' : gS}   : ∀ (l0 : Option Nat) (l1 : Int32) (l2 : Option Nat) (l3 : Int32)  (s : gS), f_X3_commit_67 (gk E) F  l0 l1 l2 l3 s = some (r, s') → W_X3_commit E z0 n0 r s' 67 [(0, vR l0), (1, vI l1), (2, vR l2), (3, vI l3)] [] s := by
  intro l0 l1 l2 l3 s hB
  unfold f_X3_commit_67 at hB
  refine gw_iload_n 1 rfl dX3_commit_67 ?_
  refine gw_iconst (v := (1 : Int32)) (by decide) dX3_commit_68 ?_
  refine gw_icmp_le (tgt := 88) dX3_commit_69 (by decide) (fun hcnd => ?_) (fun hcnd => ?_)
  · rw [if_pos hcnd] at hB
    exact gw_sub [0, 1, 2, 3] rfl (w_X3_commit_88  _ _ _ _ _ hB)
  · rw [if_neg hcnd] at hB
    refine gw_aload_n 2 rfl dX3_commit_72 ?_
    refine gw_iload_n 3 rfl dX3_commit_73 ?_
    obtain ⟨s1, hs1, hB⟩ := gB1_some hB
    refine gw_putfN (C := RX4) (T := TX4) (N := 3) (k := 0) tyX4 tyX4_ok nmX4 gcl4 (by decide) in_X4 q199 rfl (tyX4_ok 0 (by decide)) (gNF_i _) hs1 dX3_commit_74 ?_
    refine gw_aload_n 2 rfl dX3_commit_77 ?_
    refine gw_aload_n 0 rfl dX3_commit_78 ?_
    obtain ⟨v2, hv2, hB⟩ := gB1_some hB
    refine gw_getf (C := RX3) (T := TX3) (N := 9) (k := 6) gcl7 (by decide) in_X3 q289 (gfR_spec hv2) dX3_commit_79 ?_
    obtain ⟨v3, hv3, hB⟩ := gB1_some hB
    refine gw_getfN (C := RX7) (T := TX7) (N := 3) (k := 2) gcl6 (by decide) in_X7 q1791 (gfI_spec hv3) dX3_commit_82 ?_
    obtain ⟨s4, hs4, hB⟩ := gB1_some hB
    refine gw_putfN (C := RX4) (T := TX4) (N := 3) (k := 1) tyX4 tyX4_ok nmX4 gcl4 (by decide) in_X4 q201 rfl (tyX4_ok 1 (by decide)) (gNF_i _) hs4 dX3_commit_85 ?_
    exact gw_sub [0, 1, 2, 3] rfl (w_X3_commit_88  _ _ _ _ _ hB)
noncomputable def f_X3_commit_0 (κ : gK) (F : Nat)  (l0 : Option Nat) (l1 : Int32) (s : gS) : Option ((Int32 ⊕ String) × gS) :=
  gB2 (f_X1_inRange κ F (l1.toInt64) (0 : Int64) (3 : Int64) s) fun v2 s1 =>
  gB3 (f_X1_requireArgument κ F v2 (κ.2 33) s1) fun v4 s3 =>
  gB1 (gck s3 l0 7) fun _ =>
  gB3 (f_X3_requireDraft κ F l0  s3) fun v6 s5 =>
  gB1 (gfR s5 l0 7 6) fun v8 =>
  gB1 (gck s5 v8 6) fun _ =>
  gB2 (f_X7_isChanged κ F v8  s5) fun v10 s9 =>
  if v10 = 0 then
    gB1 (gpf κ s9 l0 7 6 (va_rf none)) fun s23 =>
    some ((.inl (0 : Int32)), s23)
  else
    gB1 (gfR s9 l0 7 4) fun v12 =>
    gB1 (gck s9 l0 7) fun _ =>
    gB2 (f_X3_current κ F l0  s9) fun v14 s13 =>
    gB1 (gaR s13 v12 ((1 : Int32) - v14)) fun v16 =>
    gB1 (gck s13 l0 7) fun _ =>
    gB2 (f_X3_now κ F l0  s13) fun v18 s17 =>
    gB1 (gfI s17 v18 4 0) fun v20 =>
    if l1 ≤ 0 then
      f_X3_commit_67 κ F  l0 l1 v16 (v20 + (1 : Int32)) s17
    else
      gB1 (gok .boolean (0 : Int32)) fun _ =>
      gB1 (gpf κ s17 v16 4 2 (.int (0 : Int32))) fun s22 =>
      f_X3_commit_67 κ F  l0 l1 v16 (v20 + (1 : Int32)) s22
set_option maxHeartbeats 4000000 in
theorem w_X3_commit_0 {E : gE} {F z0 n0 : Nat} {r : (Int32 ⊕ String)} {s' : gS}   : ∀ (l0 : Option Nat) (l1 : Int32)  (s : gS), f_X3_commit_0 (gk E) F  l0 l1 s = some (r, s') → W_X3_commit E z0 n0 r s' 0 [(0, vR l0), (1, vI l1)] [] s := by
  intro l0 l1 s hB
  unfold f_X3_commit_0 at hB
  refine gw_iload_n 1 rfl dX3_commit_0 ?_
  refine gw_i2l dX3_commit_1 ?_
  refine gw_lconst (v := (0 : Int64)) (by decide) dX3_commit_2 ?_
  refine gw_ldc2 (3 : Int64) q2241 dX3_commit_3 ?_
  obtain ⟨v2, s1, hv2, hB⟩ := gB2_some hB
  refine gw_callSN (y := yX1_inRange) (lw_meth q1363) q108 q2008 q1362 hdS_X1_inRange (As := [vJ (l1.toInt64), vJ (0 : Int64), vJ (3 : Int64)]) (rest := []) (m_X1_inRange _ _ _ _ _ _ hv2) (Nat.le_of_ble_eq_true rfl) (Nat.le_of_ble_eq_true rfl) rfl (Nat.le_of_ble_eq_true rfl) dX3_commit_6 (gCont_i ?_)
  refine gw_ldcSW (own := "PageGarden$Garden") (tx := "steps") (i := 33) rfl (by decide) dX3_commit_9 ?_
  rcases gB3_some hB with ⟨v4, s3, hv4, hB⟩ | ⟨Cv4, hv4, hzv4⟩
  rotate_left
  · subst hzv4
    exact gw_callSN (y := yX1_requireArgument) (lw_meth q2003) q108 q2001 q2002 hdS_X1_requireArgument (As := [vI v2, vR ((gk E).2 33)]) (rest := []) (m_X1_requireArgument _ _ _ _ _ hv4) (Nat.le_of_ble_eq_true rfl) (Nat.le_of_ble_eq_true rfl) rfl (Nat.le_of_ble_eq_true rfl) dX3_commit_12 (gCont_x (gx_out rfl rfl rfl))
  refine gw_callSN (y := yX1_requireArgument) (lw_meth q2003) q108 q2001 q2002 hdS_X1_requireArgument (As := [vI v2, vR ((gk E).2 33)]) (rest := []) (m_X1_requireArgument _ _ _ _ _ hv4) (Nat.le_of_ble_eq_true rfl) (Nat.le_of_ble_eq_true rfl) rfl (Nat.le_of_ble_eq_true rfl) dX3_commit_12 (gCont_v ?_)
  refine gw_aload_n 0 rfl dX3_commit_15 ?_
  obtain ⟨u0, hu7, hB⟩ := gB1_some hB
  rcases gB3_some hB with ⟨v6, s5, hv6, hB⟩ | ⟨Cv6, hv6, hzv6⟩
  rotate_left
  · subst hzv6
    exact gw_callV (y := yX3_requireDraft) (lw_V q2010 q2012 qs22 q110 q2013) hdV_X3_requireDraft gcl7 hu7 (As := []) (rest := []) (m_X3_requireDraft _ _ _ _ hv6) (Nat.le_of_ble_eq_true rfl) (Nat.le_of_ble_eq_true rfl) rfl (Nat.le_of_ble_eq_true rfl) dX3_commit_16 (gCont_x (gx_out rfl rfl rfl))
  refine gw_callV (y := yX3_requireDraft) (lw_V q2010 q2012 qs22 q110 q2013) hdV_X3_requireDraft gcl7 hu7 (As := []) (rest := []) (m_X3_requireDraft _ _ _ _ hv6) (Nat.le_of_ble_eq_true rfl) (Nat.le_of_ble_eq_true rfl) rfl (Nat.le_of_ble_eq_true rfl) dX3_commit_16 (gCont_v ?_)
  refine gw_aload_n 0 rfl dX3_commit_19 ?_
  obtain ⟨v8, hv8, hB⟩ := gB1_some hB
  refine gw_getf (C := RX3) (T := TX3) (N := 9) (k := 6) gcl7 (by decide) in_X3 q289 (gfR_spec hv8) dX3_commit_20 ?_
  obtain ⟨u0, hu11, hB⟩ := gB1_some hB
  obtain ⟨v10, s9, hv10, hB⟩ := gB2_some hB
  refine gw_callV (y := yX7_isChanged) (lw_V q2243 q2244 q2245 q144 q2246) hdV_X7_isChanged gcl6 hu11 (As := []) (rest := []) (m_X7_isChanged _ _ _ _ hv10) (Nat.le_of_ble_eq_true rfl) (Nat.le_of_ble_eq_true rfl) rfl (Nat.le_of_ble_eq_true rfl) dX3_commit_23 (gCont_i ?_)
  refine gw_if_ne (tgt := 36) dX3_commit_26 (by decide) (fun hcnd => ?_) (fun hcnd => ?_)
  · rw [if_neg hcnd] at hB
    refine gw_aload_n 0 rfl dX3_commit_36 ?_
    obtain ⟨v12, hv12, hB⟩ := gB1_some hB
    refine gw_getf (C := RX3) (T := TX3) (N := 9) (k := 4) gcl7 (by decide) in_X3 q286 (gfR_spec hv12) dX3_commit_37 ?_
    refine gw_iconst (v := (1 : Int32)) (by decide) dX3_commit_40 ?_
    refine gw_aload_n 0 rfl dX3_commit_41 ?_
    obtain ⟨u0, hu15, hB⟩ := gB1_some hB
    obtain ⟨v14, s13, hv14, hB⟩ := gB2_some hB
    refine gw_callV (y := yX3_current) (lw_V q1306 q1307 q1308 q110 q1309) hdV_X3_current gcl7 hu15 (As := []) (rest := [vI (1 : Int32), vR v12]) (m_X3_current _ _ _ _ hv14) (Nat.le_of_ble_eq_true rfl) (Nat.le_of_ble_eq_true rfl) rfl (Nat.le_of_ble_eq_true rfl) dX3_commit_42 (gCont_i ?_)
    refine gw_isub dX3_commit_45 ?_
    obtain ⟨v16, hv16, hB⟩ := gB1_some hB
    refine gw_aaload hv16 dX3_commit_46 ?_
    refine gw_astore_n (L' := [(2, vR v16), (0, vR l0), (1, vI l1)]) (Nat.le_of_ble_eq_true rfl) rfl dX3_commit_47 ?_
    refine gw_aload_n 1 rfl dX3_commit_48 ?_
    obtain ⟨u0, hu19, hB⟩ := gB1_some hB
    obtain ⟨v18, s17, hv18, hB⟩ := gB2_some hB
    refine gw_callV (y := yX3_now) (lw_V q1302 q1303 q1304 q110 q1305) hdV_X3_now gcl7 hu19 (As := []) (rest := []) (m_X3_now _ _ _ _ hv18) (Nat.le_of_ble_eq_true rfl) (Nat.le_of_ble_eq_true rfl) rfl (Nat.le_of_ble_eq_true rfl) dX3_commit_49 (gCont_i ?_)
    obtain ⟨v20, hv20, hB⟩ := gB1_some hB
    refine gw_getfN (C := RX4) (T := TX4) (N := 3) (k := 0) gcl4 (by decide) in_X4 q199 (gfI_spec hv20) dX3_commit_52 ?_
    refine gw_iconst (v := (1 : Int32)) (by decide) dX3_commit_55 ?_
    refine gw_iadd dX3_commit_56 ?_
    refine gw_istore_n (L' := [(3, vI (v20 + (1 : Int32))), (2, vR v16), (0, vR l0), (1, vI l1)]) (Nat.le_of_ble_eq_true rfl) rfl dX3_commit_57 ?_
    refine gw_iload_n 3 rfl dX3_commit_58 ?_
    refine gw_if_le (tgt := 67) dX3_commit_59 (by decide) (fun hcnd => ?_) (fun hcnd => ?_)
    · rw [if_pos hcnd] at hB
      exact gw_sub [2, 3, 1, 0] rfl (w_X3_commit_67  _ _ _ _ _ hB)
    · rw [if_neg hcnd] at hB
      refine gw_aload_n 1 rfl dX3_commit_62 ?_
      refine gw_iconst (v := (0 : Int32)) (by decide) dX3_commit_63 ?_
      obtain ⟨u0, hu21, hB⟩ := gB1_some hB
      obtain ⟨s22, hs22, hB⟩ := gB1_some hB
      refine gw_putfN (C := RX4) (T := TX4) (N := 3) (k := 2) tyX4 tyX4_ok nmX4 gcl4 (by decide) in_X4 q203 rfl (tyX4_ok 2 (by decide)) (gok_spec hu21) hs22 dX3_commit_64 ?_
      exact gw_sub [2, 3, 1, 0] rfl (w_X3_commit_67  _ _ _ _ _ hB)
  · rw [if_pos hcnd] at hB
    refine gw_aload_n 0 rfl dX3_commit_29 ?_
    refine gw_null dX3_commit_30 ?_
    obtain ⟨s23, hs23, hB⟩ := gB1_some hB
    refine gw_putf (C := RX3) (T := TX3) (N := 9) (k := 6) tyX3 tyX3_ok nmX3 gcl7 (by decide) in_X3 q289 rfl (tyX3_ok 6 (by decide)) (gNF_o _ _) hs23 dX3_commit_31 ?_
    refine gw_iconst (v := (0 : Int32)) (by decide) dX3_commit_34 ?_
    obtain ⟨rfl, rfl⟩ := Prod.mk.inj (Option.some.inj hB)
    exact gw_iret rfl rfl rfl dX3_commit_35
noncomputable def f_X3_commit (κ : gK) (F : Nat) (a0 : Option Nat) (a1 : Int32) (s : gS) : Option ((Int32 ⊕ String) × gS) := f_X3_commit_0 κ F a0 a1 s
theorem m_X3_commit {E : gE} {F : Nat} (a0 : Option Nat) (a1 : Int32) (s : gS) (r : (Int32 ⊕ String)) (s' : gS) (h : f_X3_commit (gk E) F a0 a1 s = some (r, s')) : gCT E 11 yX3_commit (ws_ yX3_commit cX3_commit 5 (some FieldType.int)) [vR a0, vI a1] s (gOi r) s' := by
  refine gCT_of2 (fun h => absurd h (by decide)) (plainFor_of_name (by decide)) (Nat.le_of_ble_eq_true rfl) ?_
  exact gw_sub [0, 1] rfl (w_X3_commit_0 _ _ _ h)
def dkwX4_init_0 : List UInt8 := [42, 183, 0, 1, 42, 27, 181, 0, 7, 42, 28, 181, 0, 13, 42, 29, 181, 0, 16, 177]
abbrev dktX4_init_0 : List UInt8 := dkwX4_init_0 ++ []
theorem dksX4_init_0 : cX4_init.data.toList.drop 0 = dktX4_init_0 := by decide +kernel
theorem dX4_init_0 : decode cX4_init 0 = .ok (.aload_n 0, 1) := dk_42 (dk_at dksX4_init_0 0 rfl rfl)
theorem dX4_init_1 : decode cX4_init 1 = .ok (.invokespecial 1, 3) := dk_183 0 1 (dk_at dksX4_init_0 1 rfl rfl)
theorem dX4_init_4 : decode cX4_init 4 = .ok (.aload_n 0, 1) := dk_42 (dk_at dksX4_init_0 4 rfl rfl)
theorem dX4_init_5 : decode cX4_init 5 = .ok (.iload_n 1, 1) := dk_27 (dk_at dksX4_init_0 5 rfl rfl)
theorem dX4_init_6 : decode cX4_init 6 = .ok (.putfield 7, 3) := dk_181 0 7 (dk_at dksX4_init_0 6 rfl rfl)
theorem dX4_init_9 : decode cX4_init 9 = .ok (.aload_n 0, 1) := dk_42 (dk_at dksX4_init_0 9 rfl rfl)
theorem dX4_init_10 : decode cX4_init 10 = .ok (.iload_n 2, 1) := dk_28 (dk_at dksX4_init_0 10 rfl rfl)
theorem dX4_init_11 : decode cX4_init 11 = .ok (.putfield 13, 3) := dk_181 0 13 (dk_at dksX4_init_0 11 rfl rfl)
theorem dX4_init_14 : decode cX4_init 14 = .ok (.aload_n 0, 1) := dk_42 (dk_at dksX4_init_0 14 rfl rfl)
theorem dX4_init_15 : decode cX4_init 15 = .ok (.iload_n 3, 1) := dk_29 (dk_at dksX4_init_0 15 rfl rfl)
theorem dX4_init_16 : decode cX4_init 16 = .ok (.putfield 16, 3) := dk_181 0 16 (dk_at dksX4_init_0 16 rfl rfl)
theorem dX4_init_19 : decode cX4_init 19 = .ok (.return_, 1) := dk_177 (dk_at dksX4_init_0 19 rfl rfl)
/-! PageGarden$Root.<init>(IIZ)V -/
abbrev M_X4_init (z0 n0 : Nat) (s' : gS) : gM := (RX4, cX4_init, 4, none, "<init>", [], 1, z0, n0, s'.2.1, s'.2.2)
abbrev W_X4_init (E : gE) (z0 n0 : Nat) (r : Unit) (s' : gS) (pc : Nat) (L : List (Nat × gV)) (st : List gV) (s : gS) : Prop := gW E (M_X4_init z0 n0 s') (gQm E (M_X4_init z0 n0 s') (.inl none) s') pc L st s
noncomputable def f_X4_init_0 (κ : gK) (F : Nat)  (l0 : Option Nat) (l1 : Int32) (l2 : Int32) (l3 : Int32) (s : gS) : Option (Unit × gS) :=
  gB1 (gsm l0) fun _ =>
  gB1 (gpf κ s l0 4 0 (.int l1)) fun s2 =>
  gB1 (gpf κ s2 l0 4 1 (.int l2)) fun s3 =>
  gB1 (gok .boolean l3) fun _ =>
  gB1 (gpf κ s3 l0 4 2 (.int l3)) fun s5 =>
  some ((), s5)
set_option maxHeartbeats 4000000 in
theorem w_X4_init_0 {E : gE} {F z0 n0 : Nat} {r : Unit} {s' : gS}   : ∀ (l0 : Option Nat) (l1 : Int32) (l2 : Int32) (l3 : Int32)  (s : gS), f_X4_init_0 (gk E) F  l0 l1 l2 l3 s = some (r, s') → W_X4_init E z0 n0 r s' 0 [(0, vR l0), (1, vI l1), (2, vI l2), (3, vI l3)] [] s := by
  intro l0 l1 l2 l3 s hB
  unfold f_X4_init_0 at hB
  refine gw_aload_n 0 rfl dX4_init_0 ?_
  obtain ⟨u0, hu1, hB⟩ := gB1_some hB
  refine gw_objInit (gsm_spec hu1) q197 q172 q173 (Nat.le_of_ble_eq_true rfl) (Nat.le_of_ble_eq_true rfl) dX4_init_1 ?_
  refine gw_aload_n 0 rfl dX4_init_4 ?_
  refine gw_iload_n 1 rfl dX4_init_5 ?_
  obtain ⟨s2, hs2, hB⟩ := gB1_some hB
  refine gw_putf (C := RX4) (T := TX4) (N := 3) (k := 0) tyX4 tyX4_ok nmX4 gcl4 (by decide) in_X4 q198 rfl (tyX4_ok 0 (by decide)) (gNF_i _) hs2 dX4_init_6 ?_
  refine gw_aload_n 0 rfl dX4_init_9 ?_
  refine gw_iload_n 2 rfl dX4_init_10 ?_
  obtain ⟨s3, hs3, hB⟩ := gB1_some hB
  refine gw_putf (C := RX4) (T := TX4) (N := 3) (k := 1) tyX4 tyX4_ok nmX4 gcl4 (by decide) in_X4 q200 rfl (tyX4_ok 1 (by decide)) (gNF_i _) hs3 dX4_init_11 ?_
  refine gw_aload_n 0 rfl dX4_init_14 ?_
  refine gw_iload_n 3 rfl dX4_init_15 ?_
  obtain ⟨u0, hu4, hB⟩ := gB1_some hB
  obtain ⟨s5, hs5, hB⟩ := gB1_some hB
  refine gw_putf (C := RX4) (T := TX4) (N := 3) (k := 2) tyX4 tyX4_ok nmX4 gcl4 (by decide) in_X4 q202 rfl (tyX4_ok 2 (by decide)) (gok_spec hu4) hs5 dX4_init_16 ?_
  obtain ⟨rfl, rfl⟩ := Prod.mk.inj (Option.some.inj hB)
  exact gw_vret rfl rfl rfl dX4_init_19
noncomputable def f_X4_init (κ : gK) (F : Nat) (a0 : Option Nat) (a1 : Int32) (a2 : Int32) (a3 : Int32) (s : gS) : Option (Unit × gS) := f_X4_init_0 κ F a0 a1 a2 a3 s
theorem m_X4_init {E : gE} {F : Nat} (a0 : Option Nat) (a1 : Int32) (a2 : Int32) (a3 : Int32) (s : gS) (r : Unit) (s' : gS) (h : f_X4_init (gk E) F a0 a1 a2 a3 s = some (r, s')) : gCT E 1 yX4_init (ws_ yX4_init cX4_init 4 none) [vR a0, vI a1, vI a2, vI a3] s (.inl none) s' := by
  refine gCT_of2 (fun h => absurd h (by decide)) (plainFor_of_name (by decide)) (Nat.le_of_ble_eq_true rfl) ?_
  exact gw_sub [0, 1, 2, 3] rfl (w_X4_init_0 _ _ _ _ _ h)
def dkwX4_copy_0 : List UInt8 := [187, 0, 8, 89, 42, 180, 0, 7, 42, 180, 0, 13, 42, 180, 0, 16, 183, 0, 20, 176]
abbrev dktX4_copy_0 : List UInt8 := dkwX4_copy_0 ++ []
theorem dksX4_copy_0 : cX4_copy.data.toList.drop 0 = dktX4_copy_0 := by decide +kernel
theorem dX4_copy_0 : decode cX4_copy 0 = .ok (.new 8, 3) := dk_187 0 8 (dk_at dksX4_copy_0 0 rfl rfl)
theorem dX4_copy_3 : decode cX4_copy 3 = .ok (.dup, 1) := dk_89 (dk_at dksX4_copy_0 3 rfl rfl)
theorem dX4_copy_4 : decode cX4_copy 4 = .ok (.aload_n 0, 1) := dk_42 (dk_at dksX4_copy_0 4 rfl rfl)
theorem dX4_copy_5 : decode cX4_copy 5 = .ok (.getfield 7, 3) := dk_180 0 7 (dk_at dksX4_copy_0 5 rfl rfl)
theorem dX4_copy_8 : decode cX4_copy 8 = .ok (.aload_n 0, 1) := dk_42 (dk_at dksX4_copy_0 8 rfl rfl)
theorem dX4_copy_9 : decode cX4_copy 9 = .ok (.getfield 13, 3) := dk_180 0 13 (dk_at dksX4_copy_0 9 rfl rfl)
theorem dX4_copy_12 : decode cX4_copy 12 = .ok (.aload_n 0, 1) := dk_42 (dk_at dksX4_copy_0 12 rfl rfl)
theorem dX4_copy_13 : decode cX4_copy 13 = .ok (.getfield 16, 3) := dk_180 0 16 (dk_at dksX4_copy_0 13 rfl rfl)
theorem dX4_copy_16 : decode cX4_copy 16 = .ok (.invokespecial 20, 3) := dk_183 0 20 (dk_at dksX4_copy_0 16 rfl rfl)
theorem dX4_copy_19 : decode cX4_copy 19 = .ok (.areturn, 1) := dk_176 (dk_at dksX4_copy_0 19 rfl rfl)
/-! PageGarden$Root.copy()LPageGarden$Root; -/
abbrev M_X4_copy (z0 n0 : Nat) (s' : gS) : gM := (RX4, cX4_copy, 1, (some (FieldType.object "PageGarden$Root")), "copy", [], 2, z0, n0, s'.2.1, s'.2.2)
abbrev W_X4_copy (E : gE) (z0 n0 : Nat) (r : (Option Nat)) (s' : gS) (pc : Nat) (L : List (Nat × gV)) (st : List gV) (s : gS) : Prop := gW E (M_X4_copy z0 n0 s') (gQm E (M_X4_copy z0 n0 s') (.inl (some (vR r))) s') pc L st s
noncomputable def f_X4_copy_0 (κ : gK) (F : Nat)  (l0 : Option Nat) (s : gS) : Option ((Option Nat) × gS) :=
  gB2 (gnw s 4 g0_X4 3) fun v1 s2 =>
  gB1 (gfI s2 l0 4 0) fun v3 =>
  gB1 (gfI s2 l0 4 1) fun v4 =>
  gB1 (gfI s2 l0 4 2) fun v5 =>
  gB1 (gsm v1) fun _ =>
  gB2 (f_X4_init κ F v1 v3 v4 v5 s2) fun v7 s6 =>
  some (v1, s6)
set_option maxHeartbeats 4000000 in
theorem w_X4_copy_0 {E : gE} {F z0 n0 : Nat} {r : (Option Nat)} {s' : gS}   : ∀ (l0 : Option Nat)  (s : gS), f_X4_copy_0 (gk E) F  l0 s = some (r, s') → W_X4_copy E z0 n0 r s' 0 [(0, vR l0)] [] s := by
  intro l0 s hB
  unfold f_X4_copy_0 at hB
  obtain ⟨v1, s2, hv1, hB⟩ := gB2_some hB
  refine gw_new (C := RX4) (T := TX4) (N := 3) tyX4 tyX4_ok gcl4 in_X4 q1424 q193 q111 g0_X4_ok hv1 dX4_copy_0 ?_
  refine gw_dup rfl dX4_copy_3 ?_
  refine gw_aload_n 0 rfl dX4_copy_4 ?_
  obtain ⟨v3, hv3, hB⟩ := gB1_some hB
  refine gw_getf (C := RX4) (T := TX4) (N := 3) (k := 0) gcl4 (by decide) in_X4 q198 (gfI_spec hv3) dX4_copy_5 ?_
  refine gw_aload_n 0 rfl dX4_copy_8 ?_
  obtain ⟨v4, hv4, hB⟩ := gB1_some hB
  refine gw_getf (C := RX4) (T := TX4) (N := 3) (k := 1) gcl4 (by decide) in_X4 q200 (gfI_spec hv4) dX4_copy_9 ?_
  refine gw_aload_n 0 rfl dX4_copy_12 ?_
  obtain ⟨v5, hv5, hB⟩ := gB1_some hB
  refine gw_getf (C := RX4) (T := TX4) (N := 3) (k := 2) gcl4 (by decide) in_X4 q202 (gfI_spec hv5) dX4_copy_13 ?_
  obtain ⟨u0, hu8, hB⟩ := gB1_some hB
  obtain ⟨v7, s6, hv7, hB⟩ := gB2_some hB
  refine gw_callI (y := yX4_init) (lw_meth q196) q111 q1425 q195 rfl hdS_X4_init (gsm_spec hu8) (As := [vI v3, vI v4, vI v5]) (rest := [vR v1]) (m_X4_init _ _ _ _ _ _ _ hv7) (Nat.le_of_ble_eq_true rfl) (Nat.le_of_ble_eq_true rfl) rfl (Nat.le_of_ble_eq_true rfl) dX4_copy_16 (gCont_v ?_)
  obtain ⟨rfl, rfl⟩ := Prod.mk.inj (Option.some.inj hB)
  exact gw_aret rfl (Or.inl ⟨_, rfl⟩) rfl rfl dX4_copy_19
noncomputable def f_X4_copy (κ : gK) (F : Nat) (a0 : Option Nat) (s : gS) : Option ((Option Nat) × gS) := f_X4_copy_0 κ F a0 s
theorem m_X4_copy {E : gE} {F : Nat} (a0 : Option Nat) (s : gS) (r : (Option Nat)) (s' : gS) (h : f_X4_copy (gk E) F a0 s = some (r, s')) : gCT E 2 yX4_copy (ws_ yX4_copy cX4_copy 1 (some (FieldType.object "PageGarden$Root"))) [vR a0] s (.inl (some (vR r))) s' := by
  refine gCT_of2 (fun h => absurd h (by decide)) (plainFor_of_name (by decide)) (Nat.le_of_ble_eq_true rfl) ?_
  exact gw_sub [0] rfl (w_X4_copy_0 _ _ h)
def dkwX3_copy_6 : List UInt8 := [182, 0, 84, 181, 0, 80, 43, 42, 180, 0, 89, 181, 0, 89, 43, 42, 180, 0, 93, 181, 0, 93, 43, 176]
abbrev dktX3_copy_6 : List UInt8 := dkwX3_copy_6 ++ []
def dkwX3_copy_5 : List UInt8 := [180, 0, 26, 3, 7, 184, 0, 74, 43, 42, 180, 0, 80, 199, 0, 7, 1, 167, 0, 10, 42, 180, 0, 80]
abbrev dktX3_copy_5 : List UInt8 := dkwX3_copy_5 ++ dktX3_copy_6
def dkwX3_copy_4 : List UInt8 := [182, 0, 64, 182, 0, 68, 192, 0, 72, 78, 132, 2, 1, 167, 255, 201, 42, 180, 0, 26, 3, 43]
abbrev dktX3_copy_4 : List UInt8 := dkwX3_copy_4 ++ dktX3_copy_5
def dkwX3_copy_3 : List UInt8 := [42, 180, 0, 20, 28, 50, 182, 0, 60, 153, 0, 25, 43, 180, 0, 12, 42, 180, 0, 30, 28, 50, 42, 28]
abbrev dktX3_copy_3 : List UInt8 := dkwX3_copy_3 ++ dktX3_copy_4
def dkwX3_copy_2 : List UInt8 := [183, 0, 57, 76, 3, 61, 28, 16, 32, 162, 0, 55, 43, 180, 0, 20, 28, 42, 180, 0, 20, 28, 50, 83]
abbrev dktX3_copy_2 : List UInt8 := dkwX3_copy_2 ++ dktX3_copy_3
def dkwX3_copy_1 : List UInt8 := [42, 180, 0, 38, 3, 50, 182, 0, 53, 83, 89, 4, 42, 180, 0, 38, 4, 50, 182, 0, 53, 83]
abbrev dktX3_copy_1 : List UInt8 := dkwX3_copy_1 ++ dktX3_copy_2
def dkwX3_copy_0 : List UInt8 := [187, 0, 13, 89, 42, 180, 0, 30, 42, 180, 0, 34, 182, 0, 46, 192, 0, 47, 5, 189, 0, 51, 89, 3]
abbrev dktX3_copy_0 : List UInt8 := dkwX3_copy_0 ++ dktX3_copy_1
theorem dksX3_copy_0 : cX3_copy.data.toList.drop 0 = dktX3_copy_0 := by decide +kernel
theorem dksX3_copy_1 : cX3_copy.data.toList.drop 24 = dktX3_copy_1 := dk_seg dksX3_copy_0 24 rfl rfl
theorem dksX3_copy_2 : cX3_copy.data.toList.drop 46 = dktX3_copy_2 := dk_seg dksX3_copy_1 22 rfl rfl
theorem dksX3_copy_3 : cX3_copy.data.toList.drop 70 = dktX3_copy_3 := dk_seg dksX3_copy_2 24 rfl rfl
theorem dksX3_copy_4 : cX3_copy.data.toList.drop 94 = dktX3_copy_4 := dk_seg dksX3_copy_3 24 rfl rfl
theorem dksX3_copy_5 : cX3_copy.data.toList.drop 116 = dktX3_copy_5 := dk_seg dksX3_copy_4 22 rfl rfl
theorem dksX3_copy_6 : cX3_copy.data.toList.drop 140 = dktX3_copy_6 := dk_seg dksX3_copy_5 24 rfl rfl
theorem dX3_copy_0 : decode cX3_copy 0 = .ok (.new 13, 3) := dk_187 0 13 (dk_at dksX3_copy_0 0 rfl rfl)
theorem dX3_copy_3 : decode cX3_copy 3 = .ok (.dup, 1) := dk_89 (dk_at dksX3_copy_0 3 rfl rfl)
theorem dX3_copy_4 : decode cX3_copy 4 = .ok (.aload_n 0, 1) := dk_42 (dk_at dksX3_copy_0 4 rfl rfl)
theorem dX3_copy_5 : decode cX3_copy 5 = .ok (.getfield 30, 3) := dk_180 0 30 (dk_at dksX3_copy_0 5 rfl rfl)
theorem dX3_copy_8 : decode cX3_copy 8 = .ok (.aload_n 0, 1) := dk_42 (dk_at dksX3_copy_0 8 rfl rfl)
theorem dX3_copy_9 : decode cX3_copy 9 = .ok (.getfield 34, 3) := dk_180 0 34 (dk_at dksX3_copy_0 9 rfl rfl)
theorem dX3_copy_12 : decode cX3_copy 12 = .ok (.invokevirtual 46, 3) := dk_182 0 46 (dk_at dksX3_copy_0 12 rfl rfl)
theorem dX3_copy_15 : decode cX3_copy 15 = .ok (.checkcast 47, 3) := dk_192 0 47 (dk_at dksX3_copy_0 15 rfl rfl)
theorem dX3_copy_18 : decode cX3_copy 18 = .ok (.iconst 2, 1) := dk_5 (dk_at dksX3_copy_0 18 rfl rfl)
theorem dX3_copy_19 : decode cX3_copy 19 = .ok (.anewarray 51, 3) := dk_189 0 51 (dk_at dksX3_copy_0 19 rfl rfl)
theorem dX3_copy_22 : decode cX3_copy 22 = .ok (.dup, 1) := dk_89 (dk_at dksX3_copy_0 22 rfl rfl)
theorem dX3_copy_23 : decode cX3_copy 23 = .ok (.iconst 0, 1) := dk_3 (dk_at dksX3_copy_0 23 rfl rfl)
theorem dX3_copy_24 : decode cX3_copy 24 = .ok (.aload_n 0, 1) := dk_42 (dk_at dksX3_copy_1 0 rfl rfl)
theorem dX3_copy_25 : decode cX3_copy 25 = .ok (.getfield 38, 3) := dk_180 0 38 (dk_at dksX3_copy_1 1 rfl rfl)
theorem dX3_copy_28 : decode cX3_copy 28 = .ok (.iconst 0, 1) := dk_3 (dk_at dksX3_copy_1 4 rfl rfl)
theorem dX3_copy_29 : decode cX3_copy 29 = .ok (.aaload, 1) := dk_50 (dk_at dksX3_copy_1 5 rfl rfl)
theorem dX3_copy_30 : decode cX3_copy 30 = .ok (.invokevirtual 53, 3) := dk_182 0 53 (dk_at dksX3_copy_1 6 rfl rfl)
theorem dX3_copy_33 : decode cX3_copy 33 = .ok (.aastore, 1) := dk_83 (dk_at dksX3_copy_1 9 rfl rfl)
theorem dX3_copy_34 : decode cX3_copy 34 = .ok (.dup, 1) := dk_89 (dk_at dksX3_copy_1 10 rfl rfl)
theorem dX3_copy_35 : decode cX3_copy 35 = .ok (.iconst 1, 1) := dk_4 (dk_at dksX3_copy_1 11 rfl rfl)
theorem dX3_copy_36 : decode cX3_copy 36 = .ok (.aload_n 0, 1) := dk_42 (dk_at dksX3_copy_1 12 rfl rfl)
theorem dX3_copy_37 : decode cX3_copy 37 = .ok (.getfield 38, 3) := dk_180 0 38 (dk_at dksX3_copy_1 13 rfl rfl)
theorem dX3_copy_40 : decode cX3_copy 40 = .ok (.iconst 1, 1) := dk_4 (dk_at dksX3_copy_1 16 rfl rfl)
theorem dX3_copy_41 : decode cX3_copy 41 = .ok (.aaload, 1) := dk_50 (dk_at dksX3_copy_1 17 rfl rfl)
theorem dX3_copy_42 : decode cX3_copy 42 = .ok (.invokevirtual 53, 3) := dk_182 0 53 (dk_at dksX3_copy_1 18 rfl rfl)
theorem dX3_copy_45 : decode cX3_copy 45 = .ok (.aastore, 1) := dk_83 (dk_at dksX3_copy_1 21 rfl rfl)
theorem dX3_copy_46 : decode cX3_copy 46 = .ok (.invokespecial 57, 3) := dk_183 0 57 (dk_at dksX3_copy_2 0 rfl rfl)
theorem dX3_copy_49 : decode cX3_copy 49 = .ok (.astore_n 1, 1) := dk_76 (dk_at dksX3_copy_2 3 rfl rfl)
theorem dX3_copy_50 : decode cX3_copy 50 = .ok (.iconst 0, 1) := dk_3 (dk_at dksX3_copy_2 4 rfl rfl)
theorem dX3_copy_51 : decode cX3_copy 51 = .ok (.istore_n 2, 1) := dk_61 (dk_at dksX3_copy_2 5 rfl rfl)
theorem dX3_copy_52 : decode cX3_copy 52 = .ok (.iload_n 2, 1) := dk_28 (dk_at dksX3_copy_2 6 rfl rfl)
theorem dX3_copy_53 : decode cX3_copy 53 = .ok (.bipush 32, 2) := dk_16 32 (dk_at dksX3_copy_2 7 rfl rfl)
theorem dX3_copy_55 : decode cX3_copy 55 = .ok (.if_icmp .ge 55, 3) := dk_162 0 55 (dk_at dksX3_copy_2 9 rfl rfl)
theorem dX3_copy_58 : decode cX3_copy 58 = .ok (.aload_n 1, 1) := dk_43 (dk_at dksX3_copy_2 12 rfl rfl)
theorem dX3_copy_59 : decode cX3_copy 59 = .ok (.getfield 20, 3) := dk_180 0 20 (dk_at dksX3_copy_2 13 rfl rfl)
theorem dX3_copy_62 : decode cX3_copy 62 = .ok (.iload_n 2, 1) := dk_28 (dk_at dksX3_copy_2 16 rfl rfl)
theorem dX3_copy_63 : decode cX3_copy 63 = .ok (.aload_n 0, 1) := dk_42 (dk_at dksX3_copy_2 17 rfl rfl)
theorem dX3_copy_64 : decode cX3_copy 64 = .ok (.getfield 20, 3) := dk_180 0 20 (dk_at dksX3_copy_2 18 rfl rfl)
theorem dX3_copy_67 : decode cX3_copy 67 = .ok (.iload_n 2, 1) := dk_28 (dk_at dksX3_copy_2 21 rfl rfl)
theorem dX3_copy_68 : decode cX3_copy 68 = .ok (.aaload, 1) := dk_50 (dk_at dksX3_copy_2 22 rfl rfl)
theorem dX3_copy_69 : decode cX3_copy 69 = .ok (.aastore, 1) := dk_83 (dk_at dksX3_copy_2 23 rfl rfl)
theorem dX3_copy_70 : decode cX3_copy 70 = .ok (.aload_n 0, 1) := dk_42 (dk_at dksX3_copy_3 0 rfl rfl)
theorem dX3_copy_71 : decode cX3_copy 71 = .ok (.getfield 20, 3) := dk_180 0 20 (dk_at dksX3_copy_3 1 rfl rfl)
theorem dX3_copy_74 : decode cX3_copy 74 = .ok (.iload_n 2, 1) := dk_28 (dk_at dksX3_copy_3 4 rfl rfl)
theorem dX3_copy_75 : decode cX3_copy 75 = .ok (.aaload, 1) := dk_50 (dk_at dksX3_copy_3 5 rfl rfl)
theorem dX3_copy_76 : decode cX3_copy 76 = .ok (.invokevirtual 60, 3) := dk_182 0 60 (dk_at dksX3_copy_3 6 rfl rfl)
theorem dX3_copy_79 : decode cX3_copy 79 = .ok (.ifCond .eq 25, 3) := dk_153 0 25 (dk_at dksX3_copy_3 9 rfl rfl)
theorem dX3_copy_82 : decode cX3_copy 82 = .ok (.aload_n 1, 1) := dk_43 (dk_at dksX3_copy_3 12 rfl rfl)
theorem dX3_copy_83 : decode cX3_copy 83 = .ok (.getfield 12, 3) := dk_180 0 12 (dk_at dksX3_copy_3 13 rfl rfl)
theorem dX3_copy_86 : decode cX3_copy 86 = .ok (.aload_n 0, 1) := dk_42 (dk_at dksX3_copy_3 16 rfl rfl)
theorem dX3_copy_87 : decode cX3_copy 87 = .ok (.getfield 30, 3) := dk_180 0 30 (dk_at dksX3_copy_3 17 rfl rfl)
theorem dX3_copy_90 : decode cX3_copy 90 = .ok (.iload_n 2, 1) := dk_28 (dk_at dksX3_copy_3 20 rfl rfl)
theorem dX3_copy_91 : decode cX3_copy 91 = .ok (.aaload, 1) := dk_50 (dk_at dksX3_copy_3 21 rfl rfl)
theorem dX3_copy_92 : decode cX3_copy 92 = .ok (.aload_n 0, 1) := dk_42 (dk_at dksX3_copy_3 22 rfl rfl)
theorem dX3_copy_93 : decode cX3_copy 93 = .ok (.iload_n 2, 1) := dk_28 (dk_at dksX3_copy_3 23 rfl rfl)
theorem dX3_copy_94 : decode cX3_copy 94 = .ok (.invokevirtual 64, 3) := dk_182 0 64 (dk_at dksX3_copy_4 0 rfl rfl)
theorem dX3_copy_97 : decode cX3_copy 97 = .ok (.invokevirtual 68, 3) := dk_182 0 68 (dk_at dksX3_copy_4 3 rfl rfl)
theorem dX3_copy_100 : decode cX3_copy 100 = .ok (.checkcast 72, 3) := dk_192 0 72 (dk_at dksX3_copy_4 6 rfl rfl)
theorem dX3_copy_103 : decode cX3_copy 103 = .ok (.astore_n 3, 1) := dk_78 (dk_at dksX3_copy_4 9 rfl rfl)
theorem dX3_copy_104 : decode cX3_copy 104 = .ok (.iinc 2 1, 3) := dk_132 2 1 (dk_at dksX3_copy_4 10 rfl rfl)
theorem dX3_copy_107 : decode cX3_copy 107 = .ok (.goto (-55), 3) := dk_167 255 201 (dk_at dksX3_copy_4 13 rfl rfl)
theorem dX3_copy_110 : decode cX3_copy 110 = .ok (.aload_n 0, 1) := dk_42 (dk_at dksX3_copy_4 16 rfl rfl)
theorem dX3_copy_111 : decode cX3_copy 111 = .ok (.getfield 26, 3) := dk_180 0 26 (dk_at dksX3_copy_4 17 rfl rfl)
theorem dX3_copy_114 : decode cX3_copy 114 = .ok (.iconst 0, 1) := dk_3 (dk_at dksX3_copy_4 20 rfl rfl)
theorem dX3_copy_115 : decode cX3_copy 115 = .ok (.aload_n 1, 1) := dk_43 (dk_at dksX3_copy_4 21 rfl rfl)
theorem dX3_copy_116 : decode cX3_copy 116 = .ok (.getfield 26, 3) := dk_180 0 26 (dk_at dksX3_copy_5 0 rfl rfl)
theorem dX3_copy_119 : decode cX3_copy 119 = .ok (.iconst 0, 1) := dk_3 (dk_at dksX3_copy_5 3 rfl rfl)
theorem dX3_copy_120 : decode cX3_copy 120 = .ok (.iconst 4, 1) := dk_7 (dk_at dksX3_copy_5 4 rfl rfl)
theorem dX3_copy_121 : decode cX3_copy 121 = .ok (.invokestatic 74, 3) := dk_184 0 74 (dk_at dksX3_copy_5 5 rfl rfl)
theorem dX3_copy_124 : decode cX3_copy 124 = .ok (.aload_n 1, 1) := dk_43 (dk_at dksX3_copy_5 8 rfl rfl)
theorem dX3_copy_125 : decode cX3_copy 125 = .ok (.aload_n 0, 1) := dk_42 (dk_at dksX3_copy_5 9 rfl rfl)
theorem dX3_copy_126 : decode cX3_copy 126 = .ok (.getfield 80, 3) := dk_180 0 80 (dk_at dksX3_copy_5 10 rfl rfl)
theorem dX3_copy_129 : decode cX3_copy 129 = .ok (.ifnonnull 7, 3) := dk_199 0 7 (dk_at dksX3_copy_5 13 rfl rfl)
theorem dX3_copy_132 : decode cX3_copy 132 = .ok (.aconst_null, 1) := dk_1 (dk_at dksX3_copy_5 16 rfl rfl)
theorem dX3_copy_133 : decode cX3_copy 133 = .ok (.goto 10, 3) := dk_167 0 10 (dk_at dksX3_copy_5 17 rfl rfl)
theorem dX3_copy_136 : decode cX3_copy 136 = .ok (.aload_n 0, 1) := dk_42 (dk_at dksX3_copy_5 20 rfl rfl)
theorem dX3_copy_137 : decode cX3_copy 137 = .ok (.getfield 80, 3) := dk_180 0 80 (dk_at dksX3_copy_5 21 rfl rfl)
theorem dX3_copy_140 : decode cX3_copy 140 = .ok (.invokevirtual 84, 3) := dk_182 0 84 (dk_at dksX3_copy_6 0 rfl rfl)
theorem dX3_copy_143 : decode cX3_copy 143 = .ok (.putfield 80, 3) := dk_181 0 80 (dk_at dksX3_copy_6 3 rfl rfl)
theorem dX3_copy_146 : decode cX3_copy 146 = .ok (.aload_n 1, 1) := dk_43 (dk_at dksX3_copy_6 6 rfl rfl)
theorem dX3_copy_147 : decode cX3_copy 147 = .ok (.aload_n 0, 1) := dk_42 (dk_at dksX3_copy_6 7 rfl rfl)
theorem dX3_copy_148 : decode cX3_copy 148 = .ok (.getfield 89, 3) := dk_180 0 89 (dk_at dksX3_copy_6 8 rfl rfl)
theorem dX3_copy_151 : decode cX3_copy 151 = .ok (.putfield 89, 3) := dk_181 0 89 (dk_at dksX3_copy_6 11 rfl rfl)
theorem dX3_copy_154 : decode cX3_copy 154 = .ok (.aload_n 1, 1) := dk_43 (dk_at dksX3_copy_6 14 rfl rfl)
theorem dX3_copy_155 : decode cX3_copy 155 = .ok (.aload_n 0, 1) := dk_42 (dk_at dksX3_copy_6 15 rfl rfl)
theorem dX3_copy_156 : decode cX3_copy 156 = .ok (.getfield 93, 3) := dk_180 0 93 (dk_at dksX3_copy_6 16 rfl rfl)
theorem dX3_copy_159 : decode cX3_copy 159 = .ok (.putfield 93, 3) := dk_181 0 93 (dk_at dksX3_copy_6 19 rfl rfl)
theorem dX3_copy_162 : decode cX3_copy 162 = .ok (.aload_n 1, 1) := dk_43 (dk_at dksX3_copy_6 22 rfl rfl)
theorem dX3_copy_163 : decode cX3_copy 163 = .ok (.areturn, 1) := dk_176 (dk_at dksX3_copy_6 23 rfl rfl)
/-! PageGarden$Garden.copy()LPageGarden$Garden; -/
abbrev M_X3_copy (z0 n0 : Nat) (s' : gS) : gM := (RX3, cX3_copy, 4, (some (FieldType.object "PageGarden$Garden")), "copy", [], 9, z0, n0, s'.2.1, s'.2.2)
abbrev W_X3_copy (E : gE) (z0 n0 : Nat) (r : (Option Nat)) (s' : gS) (pc : Nat) (L : List (Nat × gV)) (st : List gV) (s : gS) : Prop := gW E (M_X3_copy z0 n0 s') (gQm E (M_X3_copy z0 n0 s') (.inl (some (vR r))) s') pc L st s
noncomputable def f_X3_copy_104 (κ : gK) (F : Nat) (k52 : Option Nat → Option Nat → Int32 → gS → Option ((Option Nat) × gS)) (l0 : Option Nat) (l1 : Option Nat) (l2 : Int32) (s : gS) : Option ((Option Nat) × gS) :=
  k52 l0 l1 (l2 + (1 : Int32)) s
set_option maxHeartbeats 4000000 in
theorem w_X3_copy_104 {E : gE} {F z0 n0 : Nat} {r : (Option Nat)} {s' : gS} {k52 : Option Nat → Option Nat → Int32 → gS → Option ((Option Nat) × gS)} (hk52 : ∀ (l0 : Option Nat) (l1 : Option Nat) (l2 : Int32) (s : gS), k52 l0 l1 l2 s = some (r, s') → W_X3_copy E z0 n0 r s' 52 [(0, vR l0), (1, vR l1), (2, vI l2)] [] s) : ∀ (l0 : Option Nat) (l1 : Option Nat) (l2 : Int32)  (s : gS), f_X3_copy_104 (gk E) F k52 l0 l1 l2 s = some (r, s') → W_X3_copy E z0 n0 r s' 104 [(0, vR l0), (1, vR l1), (2, vI l2)] [] s := by
  intro l0 l1 l2 s hB
  unfold f_X3_copy_104 at hB
  refine gw_iinc (w := (1 : Int32)) (L' := [(2, vI (l2 + (1 : Int32))), (0, vR l0), (1, vR l1)]) 2 rfl (by decide) (Nat.le_of_ble_eq_true rfl) rfl dX3_copy_104 ?_
  refine gw_goto (tgt := 52) dX3_copy_107 (by decide) ?_
  exact gw_sub [1, 2, 0] rfl (hk52 _ _ _ _ hB)
noncomputable def f_X3_copy_143 (κ : gK) (F : Nat)  (l0 : Option Nat) (l1 : Option Nat) (t0 : Option Nat) (t1 : Option Nat) (s : gS) : Option ((Option Nat) × gS) :=
  gB1 (gpf κ s t0 7 6 (va_rf t1)) fun s1 =>
  gB1 (gfI s1 l0 7 7) fun v2 =>
  gB1 (gpf κ s1 l1 7 7 (.int v2)) fun s3 =>
  gB1 (gfI s3 l0 7 8) fun v4 =>
  gB1 (gpf κ s3 l1 7 8 (.int v4)) fun s5 =>
  some (l1, s5)
set_option maxHeartbeats 4000000 in
theorem w_X3_copy_143 {E : gE} {F z0 n0 : Nat} {r : (Option Nat)} {s' : gS}   : ∀ (l0 : Option Nat) (l1 : Option Nat) (t0 : Option Nat) (t1 : Option Nat) (s : gS), f_X3_copy_143 (gk E) F  l0 l1 t0 t1 s = some (r, s') → W_X3_copy E z0 n0 r s' 143 [(0, vR l0), (1, vR l1)] [vR t1, vR t0] s := by
  intro l0 l1 t0 t1 s hB
  unfold f_X3_copy_143 at hB
  obtain ⟨s1, hs1, hB⟩ := gB1_some hB
  refine gw_putf (C := RX3) (T := TX3) (N := 9) (k := 6) tyX3 tyX3_ok nmX3 gcl7 (by decide) in_X3 q289 rfl (tyX3_ok 6 (by decide)) (gNF_o _ _) hs1 dX3_copy_143 ?_
  refine gw_aload_n 1 rfl dX3_copy_146 ?_
  refine gw_aload_n 0 rfl dX3_copy_147 ?_
  obtain ⟨v2, hv2, hB⟩ := gB1_some hB
  refine gw_getf (C := RX3) (T := TX3) (N := 9) (k := 7) gcl7 (by decide) in_X3 q291 (gfI_spec hv2) dX3_copy_148 ?_
  obtain ⟨s3, hs3, hB⟩ := gB1_some hB
  refine gw_putf (C := RX3) (T := TX3) (N := 9) (k := 7) tyX3 tyX3_ok nmX3 gcl7 (by decide) in_X3 q291 rfl (tyX3_ok 7 (by decide)) (gNF_i _) hs3 dX3_copy_151 ?_
  refine gw_aload_n 1 rfl dX3_copy_154 ?_
  refine gw_aload_n 0 rfl dX3_copy_155 ?_
  obtain ⟨v4, hv4, hB⟩ := gB1_some hB
  refine gw_getf (C := RX3) (T := TX3) (N := 9) (k := 8) gcl7 (by decide) in_X3 q292 (gfI_spec hv4) dX3_copy_156 ?_
  obtain ⟨s5, hs5, hB⟩ := gB1_some hB
  refine gw_putf (C := RX3) (T := TX3) (N := 9) (k := 8) tyX3 tyX3_ok nmX3 gcl7 (by decide) in_X3 q292 rfl (tyX3_ok 8 (by decide)) (gNF_i _) hs5 dX3_copy_159 ?_
  refine gw_aload_n 1 rfl dX3_copy_162 ?_
  obtain ⟨rfl, rfl⟩ := Prod.mk.inj (Option.some.inj hB)
  exact gw_aret rfl (Or.inl ⟨_, rfl⟩) rfl rfl dX3_copy_163
noncomputable def f_X3_copy_52b (κ : gK) (F : Nat) (k52 : Option Nat → Option Nat → Int32 → gS → Option ((Option Nat) × gS)) (l0 : Option Nat) (l1 : Option Nat) (l2 : Int32) (s : gS) : Option ((Option Nat) × gS) :=
  if (32 : Int32) ≤ l2 then
    gB1 (gfR s l0 7 5) fun v1 =>
    gB1 (gfR s l1 7 5) fun v2 =>
    gB1 (gcpR κ s v1 (0 : Int32) v2 (0 : Int32) (4 : Int32)) fun s3 =>
    gB1 (gfR s3 l0 7 6) fun v4 =>
    if v4 = none then
      f_X3_copy_143 κ F  l0 l1 l1 none s3
    else
      gB1 (gfR s3 l0 7 6) fun v5 =>
      gB1 (gck s3 v5 6) fun _ =>
      gB2 (f_X7_copy κ F v5  s3) fun v7 s6 =>
      f_X3_copy_143 κ F  l0 l1 l1 v7 s6
  else
    gB1 (gfR s l1 7 1) fun v9 =>
    gB1 (gfR s l0 7 1) fun v10 =>
    gB1 (gaR s v10 l2) fun v11 =>
    gB1 (gsR κ s v9 l2 v11) fun s12 =>
    gB1 (gfR s12 l0 7 1) fun v13 =>
    gB1 (gaR s12 v13 l2) fun v14 =>
    gB2 (f_hold κ F v14 s12) fun v15 s16 =>
    if v15 = 0 then
      f_X3_copy_104 κ F k52 l0 l1 l2 s16
    else
      gB1 (gfR s16 l1 7 0) fun v17 =>
      gB1 (gfR s16 l0 7 2) fun v18 =>
      gB1 (gaR s16 v18 l2) fun v19 =>
      gB1 (gck s16 l0 7) fun _ =>
      gB2 (f_X3_page κ F l0 l2 s16) fun v21 s20 =>
      gB1 (gck s20 v17 10) fun _ =>
      gB2 (f_J1_put κ F v17 v19 v21 s20) fun v24 s23 =>
      gB1 (gcm s23 v24 [2, 3]) fun _ =>
      f_X3_copy_104 κ F k52 l0 l1 l2 s23
noncomputable def f_X3_copy_52 (κ : gK) (F : Nat)  : Nat → Option Nat → Option Nat → Int32 → gS → Option ((Option Nat) × gS)
  | 0 => fun _ _ _ _ => none
  | n + 1 => f_X3_copy_52b κ F  (f_X3_copy_52 κ F  n)
set_option maxHeartbeats 4000000 in
theorem w_X3_copy_52b {E : gE} {F z0 n0 : Nat} {r : (Option Nat)} {s' : gS} {k52 : Option Nat → Option Nat → Int32 → gS → Option ((Option Nat) × gS)} (hk52 : ∀ (l0 : Option Nat) (l1 : Option Nat) (l2 : Int32) (s : gS), k52 l0 l1 l2 s = some (r, s') → W_X3_copy E z0 n0 r s' 52 [(0, vR l0), (1, vR l1), (2, vI l2)] [] s) : ∀ (l0 : Option Nat) (l1 : Option Nat) (l2 : Int32)  (s : gS), f_X3_copy_52b (gk E) F k52 l0 l1 l2 s = some (r, s') → W_X3_copy E z0 n0 r s' 52 [(0, vR l0), (1, vR l1), (2, vI l2)] [] s := by
  intro l0 l1 l2 s hB
  unfold f_X3_copy_52b at hB
  refine gw_iload_n 2 rfl dX3_copy_52 ?_
  refine gw_bipush (v := (32 : Int32)) (by decide) dX3_copy_53 ?_
  refine gw_icmp_ge (tgt := 110) dX3_copy_55 (by decide) (fun hcnd => ?_) (fun hcnd => ?_)
  · rw [if_pos hcnd] at hB
    refine gw_aload_n 0 rfl dX3_copy_110 ?_
    obtain ⟨v1, hv1, hB⟩ := gB1_some hB
    refine gw_getf (C := RX3) (T := TX3) (N := 9) (k := 5) gcl7 (by decide) in_X3 q287 (gfR_spec hv1) dX3_copy_111 ?_
    refine gw_iconst (v := (0 : Int32)) (by decide) dX3_copy_114 ?_
    refine gw_aload_n 1 rfl dX3_copy_115 ?_
    obtain ⟨v2, hv2, hB⟩ := gB1_some hB
    refine gw_getf (C := RX3) (T := TX3) (N := 9) (k := 5) gcl7 (by decide) in_X3 q287 (gfR_spec hv2) dX3_copy_116 ?_
    refine gw_iconst (v := (0 : Int32)) (by decide) dX3_copy_119 ?_
    refine gw_iconst (v := (4 : Int32)) (by decide) dX3_copy_120 ?_
    obtain ⟨s3, hs3, hB⟩ := gB1_some hB
    refine gw_copyR q1458 q562 q561 q118 (Nat.le_of_ble_eq_true rfl) (Nat.le_of_ble_eq_true rfl) hs3 dX3_copy_121 ?_
    refine gw_aload_n 1 rfl dX3_copy_124 ?_
    refine gw_aload_n 0 rfl dX3_copy_125 ?_
    obtain ⟨v4, hv4, hB⟩ := gB1_some hB
    refine gw_getf (C := RX3) (T := TX3) (N := 9) (k := 6) gcl7 (by decide) in_X3 q289 (gfR_spec hv4) dX3_copy_126 ?_
    refine gw_ifnonnull (tgt := 136) dX3_copy_129 (by decide) (fun hcnd => ?_) (fun hcnd => ?_)
    · rw [if_neg hcnd] at hB
      refine gw_aload_n 0 rfl dX3_copy_136 ?_
      obtain ⟨v5, hv5, hB⟩ := gB1_some hB
      refine gw_getf (C := RX3) (T := TX3) (N := 9) (k := 6) gcl7 (by decide) in_X3 q289 (gfR_spec hv5) dX3_copy_137 ?_
      obtain ⟨u0, hu8, hB⟩ := gB1_some hB
      obtain ⟨v7, s6, hv7, hB⟩ := gB2_some hB
      refine gw_callV (y := yX7_copy) (lw_V q1459 q1460 q1461 q144 q1462) hdV_X7_copy gcl6 hu8 (As := []) (rest := [vR l1]) (m_X7_copy _ _ _ _ hv7) (Nat.le_of_ble_eq_true rfl) (Nat.le_of_ble_eq_true rfl) rfl (Nat.le_of_ble_eq_true rfl) dX3_copy_140 (gCont_i ?_)
      exact gw_sub [0, 1] rfl (w_X3_copy_143  _ _ _ _ _ hB)
    · rw [if_pos hcnd] at hB
      refine gw_null dX3_copy_132 ?_
      refine gw_goto (tgt := 143) dX3_copy_133 (by decide) ?_
      exact gw_sub [0, 1] rfl (w_X3_copy_143  _ _ _ _ _ hB)
  · rw [if_neg hcnd] at hB
    refine gw_aload_n 1 rfl dX3_copy_58 ?_
    obtain ⟨v9, hv9, hB⟩ := gB1_some hB
    refine gw_getf (C := RX3) (T := TX3) (N := 9) (k := 1) gcl7 (by decide) in_X3 q282 (gfR_spec hv9) dX3_copy_59 ?_
    refine gw_iload_n 2 rfl dX3_copy_62 ?_
    refine gw_aload_n 0 rfl dX3_copy_63 ?_
    obtain ⟨v10, hv10, hB⟩ := gB1_some hB
    refine gw_getf (C := RX3) (T := TX3) (N := 9) (k := 1) gcl7 (by decide) in_X3 q282 (gfR_spec hv10) dX3_copy_64 ?_
    refine gw_iload_n 2 rfl dX3_copy_67 ?_
    obtain ⟨v11, hv11, hB⟩ := gB1_some hB
    refine gw_aaload hv11 dX3_copy_68 ?_
    obtain ⟨s12, hs12, hB⟩ := gB1_some hB
    refine gw_aastore hs12 dX3_copy_69 ?_
    refine gw_aload_n 0 rfl dX3_copy_70 ?_
    obtain ⟨v13, hv13, hB⟩ := gB1_some hB
    refine gw_getf (C := RX3) (T := TX3) (N := 9) (k := 1) gcl7 (by decide) in_X3 q282 (gfR_spec hv13) dX3_copy_71 ?_
    refine gw_iload_n 2 rfl dX3_copy_74 ?_
    obtain ⟨v14, hv14, hB⟩ := gB1_some hB
    refine gw_aaload hv14 dX3_copy_75 ?_
    obtain ⟨v15, s16, hv15, hB⟩ := gB2_some hB
    refine gf_hold rfl (Nat.le_of_ble_eq_true rfl) (Nat.le_of_ble_eq_true rfl) hv15 dX3_copy_76 ?_
    refine gw_if_eq (tgt := 104) dX3_copy_79 (by decide) (fun hcnd => ?_) (fun hcnd => ?_)
    · rw [if_pos hcnd] at hB
      exact gw_sub [0, 1, 2] rfl (w_X3_copy_104 hk52 _ _ _ _ hB)
    · rw [if_neg hcnd] at hB
      refine gw_aload_n 1 rfl dX3_copy_82 ?_
      obtain ⟨v17, hv17, hB⟩ := gB1_some hB
      refine gw_getf (C := RX3) (T := TX3) (N := 9) (k := 0) gcl7 (by decide) in_X3 q281 (gfR_spec hv17) dX3_copy_83 ?_
      refine gw_aload_n 0 rfl dX3_copy_86 ?_
      obtain ⟨v18, hv18, hB⟩ := gB1_some hB
      refine gw_getf (C := RX3) (T := TX3) (N := 9) (k := 2) gcl7 (by decide) in_X3 q284 (gfR_spec hv18) dX3_copy_87 ?_
      refine gw_iload_n 2 rfl dX3_copy_90 ?_
      obtain ⟨v19, hv19, hB⟩ := gB1_some hB
      refine gw_aaload hv19 dX3_copy_91 ?_
      refine gw_aload_n 0 rfl dX3_copy_92 ?_
      refine gw_iload_n 2 rfl dX3_copy_93 ?_
      obtain ⟨u0, hu22, hB⟩ := gB1_some hB
      obtain ⟨v21, s20, hv21, hB⟩ := gB2_some hB
      refine gw_callV (y := yX3_page) (lw_V q1439 q1440 q1441 q110 q1442) hdV_X3_page gcl7 hu22 (As := [vI l2]) (rest := [vR v19, vR v17]) (m_X3_page _ _ _ _ _ hv21) (Nat.le_of_ble_eq_true rfl) (Nat.le_of_ble_eq_true rfl) rfl (Nat.le_of_ble_eq_true rfl) dX3_copy_94 (gCont_i ?_)
      obtain ⟨u0, hu25, hB⟩ := gB1_some hB
      obtain ⟨v24, s23, hv24, hB⟩ := gB2_some hB
      refine gw_callU (C := "java/util/LinkedHashMap") (owner := "java/util/HashMap") (x := ⟨"java/util/LinkedHashMap", "put", "(Ljava/lang/Object;Ljava/lang/Object;)Ljava/lang/Object;"⟩) (y := yJ1_put) (lw_app (lw_in (([Cond.methodLink "PageGarden$Garden" 68 ⟨"java/util/LinkedHashMap", "put", "(Ljava/lang/Object;Ljava/lang/Object;)Ljava/lang/Object;"⟩, Cond.sameMethod "java/util/LinkedHashMap" "java/util/HashMap" "put" "(Ljava/lang/Object;Ljava/lang/Object;)Ljava/lang/Object;", Cond.selects "java/util/LinkedHashMap" ⟨"java/util/LinkedHashMap", "put", "(Ljava/lang/Object;Ljava/lang/Object;)Ljava/lang/Object;"⟩ yJ1_put, Cond.instanceMethod yJ1_put, Cond.initialized "java/util/HashMap"] : List Cond)) [329, 330, 332, 333, 113] (by decide +kernel) (by decide +kernel)) (lw_meth q334)) rfl (show _ ∧ _ ∧ _ = some 2 from by decide +kernel) gcl10 hu25 (As := [vR v19, vR v21]) (rest := []) (m_J1_put _ _ _ _ _ _ hv24) (Nat.le_of_ble_eq_true rfl) (Nat.le_of_ble_eq_true rfl) rfl (Nat.le_of_ble_eq_true rfl) dX3_copy_97 (gCont_i ?_)
      obtain ⟨u0, hu26, hB⟩ := gB1_some hB
      refine gw_castM (cs := [2, 3]) gcm_PageGarden_Page hu26 q1244 dX3_copy_100 ?_
      refine gw_astore_n (L' := [(3, vR v24), (0, vR l0), (1, vR l1), (2, vI l2)]) (Nat.le_of_ble_eq_true rfl) rfl dX3_copy_103 ?_
      exact gw_sub [1, 2, 3] rfl (w_X3_copy_104 hk52 _ _ _ _ hB)
theorem w_X3_copy_52 {E : gE} {F z0 n0 : Nat} {r : (Option Nat)} {s' : gS}   : ∀ (n : Nat) (l0 : Option Nat) (l1 : Option Nat) (l2 : Int32)  (s : gS), f_X3_copy_52 (gk E) F  n l0 l1 l2 s = some (r, s') → W_X3_copy E z0 n0 r s' 52 [(0, vR l0), (1, vR l1), (2, vI l2)] [] s := by
  intro n
  induction n with
  | zero => intro l0 l1 l2 s hB; cases hB
  | succ n ih => intro l0 l1 l2 s hB; exact w_X3_copy_52b ih l0 l1 l2 s hB
noncomputable def f_X3_copy_0 (κ : gK) (F : Nat)  (l0 : Option Nat) (s : gS) : Option ((Option Nat) × gS) :=
  gB2 (gnw s 7 g0_X3 9) fun v1 s2 =>
  gB1 (gfR s2 l0 7 2) fun v3 =>
  gB1 (gfR s2 l0 7 3) fun v4 =>
  gB2 (gcln κ s2 0 v4) fun v5 s6 =>
  gB1 (gct s6 v5 0) fun _ =>
  gB2 (gna s6 5 (2 : Int32)) fun v8 s9 =>
  gB1 (gfR s9 l0 7 4) fun v10 =>
  gB1 (gaR s9 v10 (0 : Int32)) fun v11 =>
  gB1 (gck s9 v11 4) fun _ =>
  gB2 (f_X4_copy κ F v11  s9) fun v13 s12 =>
  gB1 (gsR κ s12 v8 (0 : Int32) v13) fun s15 =>
  gB1 (gfR s15 l0 7 4) fun v16 =>
  gB1 (gaR s15 v16 (1 : Int32)) fun v17 =>
  gB1 (gck s15 v17 4) fun _ =>
  gB2 (f_X4_copy κ F v17  s15) fun v19 s18 =>
  gB1 (gsR κ s18 v8 (1 : Int32) v19) fun s21 =>
  gB1 (gsm v1) fun _ =>
  gB2 (f_X3_init κ F v1 v3 v5 v8 s21) fun v23 s22 =>
  f_X3_copy_52 κ F  F l0 v1 (0 : Int32) s22
set_option maxHeartbeats 4000000 in
theorem w_X3_copy_0 {E : gE} {F z0 n0 : Nat} {r : (Option Nat)} {s' : gS}   : ∀ (l0 : Option Nat)  (s : gS), f_X3_copy_0 (gk E) F  l0 s = some (r, s') → W_X3_copy E z0 n0 r s' 0 [(0, vR l0)] [] s := by
  intro l0 s hB
  unfold f_X3_copy_0 at hB
  obtain ⟨v1, s2, hv1, hB⟩ := gB2_some hB
  refine gw_new (C := RX3) (T := TX3) (N := 9) tyX3 tyX3_ok gcl7 in_X3 q1413 q190 q110 g0_X3_ok hv1 dX3_copy_0 ?_
  refine gw_dup rfl dX3_copy_3 ?_
  refine gw_aload_n 0 rfl dX3_copy_4 ?_
  obtain ⟨v3, hv3, hB⟩ := gB1_some hB
  refine gw_getf (C := RX3) (T := TX3) (N := 9) (k := 2) gcl7 (by decide) in_X3 q284 (gfR_spec hv3) dX3_copy_5 ?_
  refine gw_aload_n 0 rfl dX3_copy_8 ?_
  obtain ⟨v4, hv4, hB⟩ := gB1_some hB
  refine gw_getf (C := RX3) (T := TX3) (N := 9) (k := 3) gcl7 (by decide) in_X3 q285 (gfR_spec hv4) dX3_copy_9 ?_
  obtain ⟨v5, s6, hv5, hB⟩ := gB2_some hB
  refine gw_clone (t := 0) (ad := "[I") rfl rfl (by decide) q1414 q1415 q552 q553 q1416 q1417 (Nat.le_of_ble_eq_true rfl) (Nat.le_of_ble_eq_true rfl) hv5 dX3_copy_12 ?_
  obtain ⟨u0, hu7, hB⟩ := gB1_some hB
  refine gw_castA (t := 0) rfl (by decide) hu7 q1418 dX3_copy_15 ?_
  refine gw_iconst (v := (2 : Int32)) (by decide) dX3_copy_18 ?_
  obtain ⟨v8, s9, hv8, hB⟩ := gB2_some hB
  refine gw_anewarr (C := "PageGarden$Root") (t := 5) (by decide) rfl q1419 q192 hv8 dX3_copy_19 ?_
  refine gw_dup rfl dX3_copy_22 ?_
  refine gw_iconst (v := (0 : Int32)) (by decide) dX3_copy_23 ?_
  refine gw_aload_n 0 rfl dX3_copy_24 ?_
  obtain ⟨v10, hv10, hB⟩ := gB1_some hB
  refine gw_getf (C := RX3) (T := TX3) (N := 9) (k := 4) gcl7 (by decide) in_X3 q286 (gfR_spec hv10) dX3_copy_25 ?_
  refine gw_iconst (v := (0 : Int32)) (by decide) dX3_copy_28 ?_
  obtain ⟨v11, hv11, hB⟩ := gB1_some hB
  refine gw_aaload hv11 dX3_copy_29 ?_
  obtain ⟨u0, hu14, hB⟩ := gB1_some hB
  obtain ⟨v13, s12, hv13, hB⟩ := gB2_some hB
  refine gw_callV (y := yX4_copy) (lw_V q1420 q1421 q1422 q111 q1423) hdV_X4_copy gcl4 hu14 (As := []) (rest := [vI (0 : Int32), vR v8, vR v8, vR v5, vR v3, vR v1, vR v1]) (m_X4_copy _ _ _ _ hv13) (Nat.le_of_ble_eq_true rfl) (Nat.le_of_ble_eq_true rfl) rfl (Nat.le_of_ble_eq_true rfl) dX3_copy_30 (gCont_i ?_)
  obtain ⟨s15, hs15, hB⟩ := gB1_some hB
  refine gw_aastore hs15 dX3_copy_33 ?_
  refine gw_dup rfl dX3_copy_34 ?_
  refine gw_iconst (v := (1 : Int32)) (by decide) dX3_copy_35 ?_
  refine gw_aload_n 0 rfl dX3_copy_36 ?_
  obtain ⟨v16, hv16, hB⟩ := gB1_some hB
  refine gw_getf (C := RX3) (T := TX3) (N := 9) (k := 4) gcl7 (by decide) in_X3 q286 (gfR_spec hv16) dX3_copy_37 ?_
  refine gw_iconst (v := (1 : Int32)) (by decide) dX3_copy_40 ?_
  obtain ⟨v17, hv17, hB⟩ := gB1_some hB
  refine gw_aaload hv17 dX3_copy_41 ?_
  obtain ⟨u0, hu20, hB⟩ := gB1_some hB
  obtain ⟨v19, s18, hv19, hB⟩ := gB2_some hB
  refine gw_callV (y := yX4_copy) (lw_V q1420 q1421 q1422 q111 q1423) hdV_X4_copy gcl4 hu20 (As := []) (rest := [vI (1 : Int32), vR v8, vR v8, vR v5, vR v3, vR v1, vR v1]) (m_X4_copy _ _ _ _ hv19) (Nat.le_of_ble_eq_true rfl) (Nat.le_of_ble_eq_true rfl) rfl (Nat.le_of_ble_eq_true rfl) dX3_copy_42 (gCont_i ?_)
  obtain ⟨s21, hs21, hB⟩ := gB1_some hB
  refine gw_aastore hs21 dX3_copy_45 ?_
  obtain ⟨u0, hu24, hB⟩ := gB1_some hB
  obtain ⟨v23, s22, hv23, hB⟩ := gB2_some hB
  refine gw_callI (y := yX3_init) (lw_meth q214) q110 q1426 q213 rfl hdS_X3_init (gsm_spec hu24) (As := [vR v3, vR v5, vR v8]) (rest := [vR v1]) (m_X3_init _ _ _ _ _ _ _ hv23) (Nat.le_of_ble_eq_true rfl) (Nat.le_of_ble_eq_true rfl) rfl (Nat.le_of_ble_eq_true rfl) dX3_copy_46 (gCont_v ?_)
  refine gw_astore_n (L' := [(1, vR v1), (0, vR l0)]) (Nat.le_of_ble_eq_true rfl) rfl dX3_copy_49 ?_
  refine gw_iconst (v := (0 : Int32)) (by decide) dX3_copy_50 ?_
  refine gw_istore_n (L' := [(2, vI (0 : Int32)), (1, vR v1), (0, vR l0)]) (Nat.le_of_ble_eq_true rfl) rfl dX3_copy_51 ?_
  exact gw_sub [2, 1, 0] rfl (w_X3_copy_52  F _ _ _ _ hB)
noncomputable def f_X3_copy (κ : gK) (F : Nat) (a0 : Option Nat) (s : gS) : Option ((Option Nat) × gS) := f_X3_copy_0 κ F a0 s
theorem m_X3_copy {E : gE} {F : Nat} (a0 : Option Nat) (s : gS) (r : (Option Nat)) (s' : gS) (h : f_X3_copy (gk E) F a0 s = some (r, s')) : gCT E 9 yX3_copy (ws_ yX3_copy cX3_copy 4 (some (FieldType.object "PageGarden$Garden"))) [vR a0] s (.inl (some (vR r))) s' := by
  refine gCT_of2 (fun h => absurd h (by decide)) (plainFor_of_name (by decide)) (Nat.le_of_ble_eq_true rfl) ?_
  exact gw_sub [0] rfl (w_X3_copy_0 _ _ h)
def dkwX3_drafted_0 : List UInt8 := [42, 182, 0, 227, 42, 42, 180, 0, 80, 180, 0, 230, 27, 182, 0, 231, 172]
abbrev dktX3_drafted_0 : List UInt8 := dkwX3_drafted_0 ++ []
theorem dksX3_drafted_0 : cX3_drafted.data.toList.drop 0 = dktX3_drafted_0 := by decide +kernel
theorem dX3_drafted_0 : decode cX3_drafted 0 = .ok (.aload_n 0, 1) := dk_42 (dk_at dksX3_drafted_0 0 rfl rfl)
theorem dX3_drafted_1 : decode cX3_drafted 1 = .ok (.invokevirtual 227, 3) := dk_182 0 227 (dk_at dksX3_drafted_0 1 rfl rfl)
theorem dX3_drafted_4 : decode cX3_drafted 4 = .ok (.aload_n 0, 1) := dk_42 (dk_at dksX3_drafted_0 4 rfl rfl)
theorem dX3_drafted_5 : decode cX3_drafted 5 = .ok (.aload_n 0, 1) := dk_42 (dk_at dksX3_drafted_0 5 rfl rfl)
theorem dX3_drafted_6 : decode cX3_drafted 6 = .ok (.getfield 80, 3) := dk_180 0 80 (dk_at dksX3_drafted_0 6 rfl rfl)
theorem dX3_drafted_9 : decode cX3_drafted 9 = .ok (.getfield 230, 3) := dk_180 0 230 (dk_at dksX3_drafted_0 9 rfl rfl)
theorem dX3_drafted_12 : decode cX3_drafted 12 = .ok (.iload_n 1, 1) := dk_27 (dk_at dksX3_drafted_0 12 rfl rfl)
theorem dX3_drafted_13 : decode cX3_drafted 13 = .ok (.invokevirtual 231, 3) := dk_182 0 231 (dk_at dksX3_drafted_0 13 rfl rfl)
theorem dX3_drafted_16 : decode cX3_drafted 16 = .ok (.ireturn, 1) := dk_172 (dk_at dksX3_drafted_0 16 rfl rfl)
/-! PageGarden$Garden.drafted(I)I -/
abbrev M_X3_drafted (z0 n0 : Nat) (s' : gS) : gM := (RX3, cX3_drafted, 2, (some FieldType.int), "drafted", [], 11, z0, n0, s'.2.1, s'.2.2)
abbrev W_X3_drafted (E : gE) (z0 n0 : Nat) (r : (Int32 ⊕ String)) (s' : gS) (pc : Nat) (L : List (Nat × gV)) (st : List gV) (s : gS) : Prop := gW E (M_X3_drafted z0 n0 s') (gQm E (M_X3_drafted z0 n0 s') (gOi r) s') pc L st s
noncomputable def f_X3_drafted_0 (κ : gK) (F : Nat)  (l0 : Option Nat) (l1 : Int32) (s : gS) : Option ((Int32 ⊕ String) × gS) :=
  gB1 (gck s l0 7) fun _ =>
  gB3 (f_X3_requireDraft κ F l0  s) fun v2 s1 =>
  gB1 (gfR s1 l0 7 6) fun v4 =>
  gB1 (gfI s1 v4 6 2) fun v5 =>
  gB1 (gck s1 l0 7) fun _ =>
  gB2 (f_X3_valueBy κ F l0 v5 l1 s1) fun v7 s6 =>
  some ((.inl v7), s6)
set_option maxHeartbeats 4000000 in
theorem w_X3_drafted_0 {E : gE} {F z0 n0 : Nat} {r : (Int32 ⊕ String)} {s' : gS}   : ∀ (l0 : Option Nat) (l1 : Int32)  (s : gS), f_X3_drafted_0 (gk E) F  l0 l1 s = some (r, s') → W_X3_drafted E z0 n0 r s' 0 [(0, vR l0), (1, vI l1)] [] s := by
  intro l0 l1 s hB
  unfold f_X3_drafted_0 at hB
  refine gw_aload_n 0 rfl dX3_drafted_0 ?_
  obtain ⟨u0, hu3, hB⟩ := gB1_some hB
  rcases gB3_some hB with ⟨v2, s1, hv2, hB⟩ | ⟨Cv2, hv2, hzv2⟩
  rotate_left
  · subst hzv2
    exact gw_callV (y := yX3_requireDraft) (lw_V q2010 q2012 qs22 q110 q2013) hdV_X3_requireDraft gcl7 hu3 (As := []) (rest := []) (m_X3_requireDraft _ _ _ _ hv2) (Nat.le_of_ble_eq_true rfl) (Nat.le_of_ble_eq_true rfl) rfl (Nat.le_of_ble_eq_true rfl) dX3_drafted_1 (gCont_x (gx_out rfl rfl rfl))
  refine gw_callV (y := yX3_requireDraft) (lw_V q2010 q2012 qs22 q110 q2013) hdV_X3_requireDraft gcl7 hu3 (As := []) (rest := []) (m_X3_requireDraft _ _ _ _ hv2) (Nat.le_of_ble_eq_true rfl) (Nat.le_of_ble_eq_true rfl) rfl (Nat.le_of_ble_eq_true rfl) dX3_drafted_1 (gCont_v ?_)
  refine gw_aload_n 0 rfl dX3_drafted_4 ?_
  refine gw_aload_n 0 rfl dX3_drafted_5 ?_
  obtain ⟨v4, hv4, hB⟩ := gB1_some hB
  refine gw_getf (C := RX3) (T := TX3) (N := 9) (k := 6) gcl7 (by decide) in_X3 q289 (gfR_spec hv4) dX3_drafted_6 ?_
  obtain ⟨v5, hv5, hB⟩ := gB1_some hB
  refine gw_getfN (C := RX7) (T := TX7) (N := 3) (k := 2) gcl6 (by decide) in_X7 q1791 (gfI_spec hv5) dX3_drafted_9 ?_
  refine gw_iload_n 1 rfl dX3_drafted_12 ?_
  obtain ⟨u0, hu8, hB⟩ := gB1_some hB
  obtain ⟨v7, s6, hv7, hB⟩ := gB2_some hB
  refine gw_callV (y := yX3_valueBy) (lw_V q2105 q2106 q2107 q110 q2108) hdV_X3_valueBy gcl7 hu8 (As := [vI v5, vI l1]) (rest := []) (m_X3_valueBy _ _ _ _ _ _ hv7) (Nat.le_of_ble_eq_true rfl) (Nat.le_of_ble_eq_true rfl) rfl (Nat.le_of_ble_eq_true rfl) dX3_drafted_13 (gCont_i ?_)
  obtain ⟨rfl, rfl⟩ := Prod.mk.inj (Option.some.inj hB)
  exact gw_iret rfl rfl rfl dX3_drafted_16
noncomputable def f_X3_drafted (κ : gK) (F : Nat) (a0 : Option Nat) (a1 : Int32) (s : gS) : Option ((Int32 ⊕ String) × gS) := f_X3_drafted_0 κ F a0 a1 s
theorem m_X3_drafted {E : gE} {F : Nat} (a0 : Option Nat) (a1 : Int32) (s : gS) (r : (Int32 ⊕ String)) (s' : gS) (h : f_X3_drafted (gk E) F a0 a1 s = some (r, s')) : gCT E 11 yX3_drafted (ws_ yX3_drafted cX3_drafted 2 (some FieldType.int)) [vR a0, vI a1] s (gOi r) s' := by
  refine gCT_of2 (fun h => absurd h (by decide)) (plainFor_of_name (by decide)) (Nat.le_of_ble_eq_true rfl) ?_
  exact gw_sub [0, 1] rfl (w_X3_drafted_0 _ _ _ h)
