set_option maxRecDepth 100000
def dkwJ25_add_1 : List UInt8 := [172]
abbrev dktJ25_add_1 : List UInt8 := dkwJ25_add_1 ++ []
def dkwJ25_add_0 : List UInt8 := [42, 89, 180, 0, 63, 4, 96, 181, 0, 63, 42, 43, 42, 180, 0, 9, 42, 180, 0, 48, 182, 0, 131, 4]
abbrev dktJ25_add_0 : List UInt8 := dkwJ25_add_0 ++ dktJ25_add_1
theorem dksJ25_add_0 : cJ25_add.data.toList.drop 0 = dktJ25_add_0 := by decide +kernel
theorem dksJ25_add_1 : cJ25_add.data.toList.drop 24 = dktJ25_add_1 := dk_seg dksJ25_add_0 24 rfl rfl
theorem dJ25_add_0 : decode cJ25_add 0 = .ok (.aload_n 0, 1) := dk_42 (dk_at dksJ25_add_0 0 rfl rfl)
theorem dJ25_add_1 : decode cJ25_add 1 = .ok (.dup, 1) := dk_89 (dk_at dksJ25_add_0 1 rfl rfl)
theorem dJ25_add_2 : decode cJ25_add 2 = .ok (.getfield 63, 3) := dk_180 0 63 (dk_at dksJ25_add_0 2 rfl rfl)
theorem dJ25_add_5 : decode cJ25_add 5 = .ok (.iconst 1, 1) := dk_4 (dk_at dksJ25_add_0 5 rfl rfl)
theorem dJ25_add_6 : decode cJ25_add 6 = .ok (.iadd, 1) := dk_96 (dk_at dksJ25_add_0 6 rfl rfl)
theorem dJ25_add_7 : decode cJ25_add 7 = .ok (.putfield 63, 3) := dk_181 0 63 (dk_at dksJ25_add_0 7 rfl rfl)
theorem dJ25_add_10 : decode cJ25_add 10 = .ok (.aload_n 0, 1) := dk_42 (dk_at dksJ25_add_0 10 rfl rfl)
theorem dJ25_add_11 : decode cJ25_add 11 = .ok (.aload_n 1, 1) := dk_43 (dk_at dksJ25_add_0 11 rfl rfl)
theorem dJ25_add_12 : decode cJ25_add 12 = .ok (.aload_n 0, 1) := dk_42 (dk_at dksJ25_add_0 12 rfl rfl)
theorem dJ25_add_13 : decode cJ25_add 13 = .ok (.getfield 9, 3) := dk_180 0 9 (dk_at dksJ25_add_0 13 rfl rfl)
theorem dJ25_add_16 : decode cJ25_add 16 = .ok (.aload_n 0, 1) := dk_42 (dk_at dksJ25_add_0 16 rfl rfl)
theorem dJ25_add_17 : decode cJ25_add 17 = .ok (.getfield 48, 3) := dk_180 0 48 (dk_at dksJ25_add_0 17 rfl rfl)
theorem dJ25_add_20 : decode cJ25_add 20 = .ok (.invokevirtual 131, 3) := dk_182 0 131 (dk_at dksJ25_add_0 20 rfl rfl)
theorem dJ25_add_23 : decode cJ25_add 23 = .ok (.iconst 1, 1) := dk_4 (dk_at dksJ25_add_0 23 rfl rfl)
theorem dJ25_add_24 : decode cJ25_add 24 = .ok (.ireturn, 1) := dk_172 (dk_at dksJ25_add_1 0 rfl rfl)
/-! java/util/ArrayList.add(Ljava/lang/Object;)Z -/
abbrev M_J25_add (z0 n0 : Nat) (s' : gS) : gM := (RJ25, cJ25_add, 2, (some FieldType.boolean), "add", [], 5, z0, n0, s'.2.1, s'.2.2)
abbrev W_J25_add (E : gE) (z0 n0 : Nat) (r : Int32) (s' : gS) (pc : Nat) (L : List (Nat × gV)) (st : List gV) (s : gS) : Prop := gW E (M_J25_add z0 n0 s') (gQm E (M_J25_add z0 n0 s') (.inl (some (vI r))) s') pc L st s
noncomputable def f_J25_add_0 (κ : gK) (F : Nat)  (l0 : Option Nat) (l1 : Option Nat) (s : gS) : Option (Int32 × gS) :=
  gB1 (gfI s l0 13 0) fun v1 =>
  gB1 (gpf κ s l0 13 0 (.int (v1 + (1 : Int32)))) fun s2 =>
  gB1 (gfR s2 l0 13 1) fun v3 =>
  gB1 (gfI s2 l0 13 2) fun v4 =>
  gB1 (gck s2 l0 13) fun _ =>
  gB2 (f_J25_add_2 κ F l0 l1 v3 v4 s2) fun v6 s5 =>
  gB1 (gok .boolean (1 : Int32)) fun _ => some ((1 : Int32), s5)
set_option maxHeartbeats 4000000 in
theorem w_J25_add_0 {E : gE} {F z0 n0 : Nat} {r : Int32} {s' : gS}   : ∀ (l0 : Option Nat) (l1 : Option Nat)  (s : gS), f_J25_add_0 (gk E) F  l0 l1 s = some (r, s') → W_J25_add E z0 n0 r s' 0 [(0, vR l0), (1, vR l1)] [] s := by
  intro l0 l1 s hB
  unfold f_J25_add_0 at hB
  refine gw_aload_n 0 rfl dJ25_add_0 ?_
  refine gw_dup rfl dJ25_add_1 ?_
  obtain ⟨v1, hv1, hB⟩ := gB1_some hB
  refine gw_getfS (C := RJ25) (T := TJ25) (N := 3) (k := 0) gcl13 (by decide) in_J25 q1262 q1263 (gfI_spec hv1) dJ25_add_2 ?_
  refine gw_iconst (v := (1 : Int32)) (by decide) dJ25_add_5 ?_
  refine gw_iadd dJ25_add_6 ?_
  obtain ⟨s2, hs2, hB⟩ := gB1_some hB
  refine gw_putfS (C := RJ25) (T := TJ25) (N := 3) (k := 0) tyJ25 tyJ25_ok nmJ25 gcl13 (by decide) in_J25 q1262 q1263 rfl (tyJ25_ok 0 (by decide)) (gNF_i _) hs2 dJ25_add_7 ?_
  refine gw_aload_n 0 rfl dJ25_add_10 ?_
  refine gw_aload_n 1 rfl dJ25_add_11 ?_
  refine gw_aload_n 0 rfl dJ25_add_12 ?_
  obtain ⟨v3, hv3, hB⟩ := gB1_some hB
  refine gw_getf (C := RJ25) (T := TJ25) (N := 3) (k := 1) gcl13 (by decide) in_J25 q1259 (gfR_spec hv3) dJ25_add_13 ?_
  refine gw_aload_n 0 rfl dJ25_add_16 ?_
  obtain ⟨v4, hv4, hB⟩ := gB1_some hB
  refine gw_getf (C := RJ25) (T := TJ25) (N := 3) (k := 2) gcl13 (by decide) in_J25 q1260 (gfI_spec hv4) dJ25_add_17 ?_
  obtain ⟨u0, hu7, hB⟩ := gB1_some hB
  obtain ⟨v6, s5, hv6, hB⟩ := gB2_some hB
  refine gw_callV (y := yJ25_add_2) (lw_V q2357 q2359 qs38 q142 q2360) hdV_J25_add_2 gcl13 hu7 (As := [vR l1, vR v3, vI v4]) (rest := []) (m_J25_add_2 _ _ _ _ _ _ _ hv6) (Nat.le_of_ble_eq_true rfl) (Nat.le_of_ble_eq_true rfl) rfl (Nat.le_of_ble_eq_true rfl) dJ25_add_20 (gCont_v ?_)
  refine gw_iconst (v := (1 : Int32)) (by decide) dJ25_add_23 ?_
  obtain ⟨u, hu, hB⟩ := gB1_some hB
  obtain ⟨rfl, rfl⟩ := Prod.mk.inj (Option.some.inj hB)
  exact gw_zret rfl hu rfl rfl dJ25_add_24
noncomputable def f_J25_add (κ : gK) (F : Nat) (a0 : Option Nat) (a1 : Option Nat) (s : gS) : Option (Int32 × gS) := f_J25_add_0 κ F a0 a1 s
theorem m_J25_add {E : gE} {F : Nat} (a0 : Option Nat) (a1 : Option Nat) (s : gS) (r : Int32) (s' : gS) (h : f_J25_add (gk E) F a0 a1 s = some (r, s')) : gCT E 5 yJ25_add (ws_ yJ25_add cJ25_add 2 (some FieldType.boolean)) [vR a0, vR a1] s (.inl (some (vI r))) s' := by
  refine gCT_of2 (fun h => absurd h (by decide)) (plainFor_of_name (by decide)) (Nat.le_of_ble_eq_true rfl) ?_
  exact gw_sub [0, 1] rfl (w_J25_add_0 _ _ _ h)
def dkwX1_become_1 : List UInt8 := [180, 0, 106, 42, 180, 0, 99, 182, 0, 120, 62, 42, 43, 181, 0, 99, 28, 172]
abbrev dktX1_become_1 : List UInt8 := dkwX1_become_1 ++ []
def dkwX1_become_0 : List UInt8 := [42, 180, 0, 106, 182, 0, 114, 7, 160, 0, 15, 42, 180, 0, 106, 3, 182, 0, 117, 192, 0, 40, 78, 42]
abbrev dktX1_become_0 : List UInt8 := dkwX1_become_0 ++ dktX1_become_1
theorem dksX1_become_0 : cX1_become.data.toList.drop 0 = dktX1_become_0 := by decide +kernel
theorem dksX1_become_1 : cX1_become.data.toList.drop 24 = dktX1_become_1 := dk_seg dksX1_become_0 24 rfl rfl
theorem dX1_become_0 : decode cX1_become 0 = .ok (.aload_n 0, 1) := dk_42 (dk_at dksX1_become_0 0 rfl rfl)
theorem dX1_become_1 : decode cX1_become 1 = .ok (.getfield 106, 3) := dk_180 0 106 (dk_at dksX1_become_0 1 rfl rfl)
theorem dX1_become_4 : decode cX1_become 4 = .ok (.invokevirtual 114, 3) := dk_182 0 114 (dk_at dksX1_become_0 4 rfl rfl)
theorem dX1_become_7 : decode cX1_become 7 = .ok (.iconst 4, 1) := dk_7 (dk_at dksX1_become_0 7 rfl rfl)
theorem dX1_become_8 : decode cX1_become 8 = .ok (.if_icmp .ne 15, 3) := dk_160 0 15 (dk_at dksX1_become_0 8 rfl rfl)
theorem dX1_become_11 : decode cX1_become 11 = .ok (.aload_n 0, 1) := dk_42 (dk_at dksX1_become_0 11 rfl rfl)
theorem dX1_become_12 : decode cX1_become 12 = .ok (.getfield 106, 3) := dk_180 0 106 (dk_at dksX1_become_0 12 rfl rfl)
theorem dX1_become_15 : decode cX1_become 15 = .ok (.iconst 0, 1) := dk_3 (dk_at dksX1_become_0 15 rfl rfl)
theorem dX1_become_16 : decode cX1_become 16 = .ok (.invokevirtual 117, 3) := dk_182 0 117 (dk_at dksX1_become_0 16 rfl rfl)
theorem dX1_become_19 : decode cX1_become 19 = .ok (.checkcast 40, 3) := dk_192 0 40 (dk_at dksX1_become_0 19 rfl rfl)
theorem dX1_become_22 : decode cX1_become 22 = .ok (.astore_n 3, 1) := dk_78 (dk_at dksX1_become_0 22 rfl rfl)
theorem dX1_become_23 : decode cX1_become 23 = .ok (.aload_n 0, 1) := dk_42 (dk_at dksX1_become_0 23 rfl rfl)
theorem dX1_become_24 : decode cX1_become 24 = .ok (.getfield 106, 3) := dk_180 0 106 (dk_at dksX1_become_1 0 rfl rfl)
theorem dX1_become_27 : decode cX1_become 27 = .ok (.aload_n 0, 1) := dk_42 (dk_at dksX1_become_1 3 rfl rfl)
theorem dX1_become_28 : decode cX1_become 28 = .ok (.getfield 99, 3) := dk_180 0 99 (dk_at dksX1_become_1 4 rfl rfl)
theorem dX1_become_31 : decode cX1_become 31 = .ok (.invokevirtual 120, 3) := dk_182 0 120 (dk_at dksX1_become_1 7 rfl rfl)
theorem dX1_become_34 : decode cX1_become 34 = .ok (.istore_n 3, 1) := dk_62 (dk_at dksX1_become_1 10 rfl rfl)
theorem dX1_become_35 : decode cX1_become 35 = .ok (.aload_n 0, 1) := dk_42 (dk_at dksX1_become_1 11 rfl rfl)
theorem dX1_become_36 : decode cX1_become 36 = .ok (.aload_n 1, 1) := dk_43 (dk_at dksX1_become_1 12 rfl rfl)
theorem dX1_become_37 : decode cX1_become 37 = .ok (.putfield 99, 3) := dk_181 0 99 (dk_at dksX1_become_1 13 rfl rfl)
theorem dX1_become_40 : decode cX1_become 40 = .ok (.iload_n 2, 1) := dk_28 (dk_at dksX1_become_1 16 rfl rfl)
theorem dX1_become_41 : decode cX1_become 41 = .ok (.ireturn, 1) := dk_172 (dk_at dksX1_become_1 17 rfl rfl)
/-! PageGarden.become(LPageGarden$Garden;I)I -/
abbrev M_X1_become (z0 n0 : Nat) (s' : gS) : gM := (RX1, cX1_become, 4, (some FieldType.int), "become", [], 6, z0, n0, s'.2.1, s'.2.2)
abbrev W_X1_become (E : gE) (z0 n0 : Nat) (r : Int32) (s' : gS) (pc : Nat) (L : List (Nat × gV)) (st : List gV) (s : gS) : Prop := gW E (M_X1_become z0 n0 s') (gQm E (M_X1_become z0 n0 s') (.inl (some (vI r))) s') pc L st s
noncomputable def f_X1_become_23 (κ : gK) (F : Nat)  (l0 : Option Nat) (l1 : Option Nat) (l2 : Int32) (s : gS) : Option (Int32 × gS) :=
  gB1 (gfR s l0 0 1) fun v1 =>
  gB1 (gfR s l0 0 0) fun v2 =>
  gB1 (gck s v1 13) fun _ =>
  gB2 (f_J25_add κ F v1 v2 s) fun v4 s3 =>
  gB1 (gpf κ s3 l0 0 0 (va_rf l1)) fun s6 =>
  some (l2, s6)
set_option maxHeartbeats 4000000 in
theorem w_X1_become_23 {E : gE} {F z0 n0 : Nat} {r : Int32} {s' : gS}   : ∀ (l0 : Option Nat) (l1 : Option Nat) (l2 : Int32)  (s : gS), f_X1_become_23 (gk E) F  l0 l1 l2 s = some (r, s') → W_X1_become E z0 n0 r s' 23 [(0, vR l0), (1, vR l1), (2, vI l2)] [] s := by
  intro l0 l1 l2 s hB
  unfold f_X1_become_23 at hB
  refine gw_aload_n 0 rfl dX1_become_23 ?_
  obtain ⟨v1, hv1, hB⟩ := gB1_some hB
  refine gw_getf (C := RX1) (T := TX1) (N := 4) (k := 1) gcl0 (by decide) in_X1 q1272 (gfR_spec hv1) dX1_become_24 ?_
  refine gw_aload_n 0 rfl dX1_become_27 ?_
  obtain ⟨v2, hv2, hB⟩ := gB1_some hB
  refine gw_getf (C := RX1) (T := TX1) (N := 4) (k := 0) gcl0 (by decide) in_X1 q1271 (gfR_spec hv2) dX1_become_28 ?_
  obtain ⟨u0, hu5, hB⟩ := gB1_some hB
  obtain ⟨v4, s3, hv4, hB⟩ := gB2_some hB
  refine gw_callV (y := yJ25_add) (lw_V q2353 q2354 q2355 q142 q2356) hdV_J25_add gcl13 hu5 (As := [vR v2]) (rest := []) (m_J25_add _ _ _ _ _ hv4) (Nat.le_of_ble_eq_true rfl) (Nat.le_of_ble_eq_true rfl) rfl (Nat.le_of_ble_eq_true rfl) dX1_become_31 (gCont_i ?_)
  refine gw_istore_n (L' := [(3, vI v4), (0, vR l0), (1, vR l1), (2, vI l2)]) (Nat.le_of_ble_eq_true rfl) rfl dX1_become_34 ?_
  refine gw_aload_n 1 rfl dX1_become_35 ?_
  refine gw_aload_n 2 rfl dX1_become_36 ?_
  obtain ⟨s6, hs6, hB⟩ := gB1_some hB
  refine gw_putf (C := RX1) (T := TX1) (N := 4) (k := 0) tyX1 tyX1_ok nmX1 gcl0 (by decide) in_X1 q1271 rfl (tyX1_ok 0 (by decide)) (gNF_o _ _) hs6 dX1_become_37 ?_
  refine gw_iload_n 3 rfl dX1_become_40 ?_
  obtain ⟨rfl, rfl⟩ := Prod.mk.inj (Option.some.inj hB)
  exact gw_iret rfl rfl rfl dX1_become_41
noncomputable def f_X1_become_0 (κ : gK) (F : Nat)  (l0 : Option Nat) (l1 : Option Nat) (l2 : Int32) (s : gS) : Option (Int32 × gS) :=
  gB1 (gfR s l0 0 1) fun v1 =>
  gB1 (gck s v1 13) fun _ =>
  gB2 (f_J25_size κ F v1  s) fun v3 s2 =>
  if v3 = (4 : Int32) then
    gB1 (gfR s2 l0 0 1) fun v5 =>
    gB1 (gck s2 v5 13) fun _ =>
    gB2 (f_J25_remove κ F v5 (0 : Int32) s2) fun v7 s6 =>
    gB1 (gcc s6 v7 7) fun _ =>
    f_X1_become_23 κ F  l0 l1 l2 s6
  else
    f_X1_become_23 κ F  l0 l1 l2 s2
set_option maxHeartbeats 4000000 in
theorem w_X1_become_0 {E : gE} {F z0 n0 : Nat} {r : Int32} {s' : gS}   : ∀ (l0 : Option Nat) (l1 : Option Nat) (l2 : Int32)  (s : gS), f_X1_become_0 (gk E) F  l0 l1 l2 s = some (r, s') → W_X1_become E z0 n0 r s' 0 [(0, vR l0), (1, vR l1), (2, vI l2)] [] s := by
  intro l0 l1 l2 s hB
  unfold f_X1_become_0 at hB
  refine gw_aload_n 0 rfl dX1_become_0 ?_
  obtain ⟨v1, hv1, hB⟩ := gB1_some hB
  refine gw_getf (C := RX1) (T := TX1) (N := 4) (k := 1) gcl0 (by decide) in_X1 q1272 (gfR_spec hv1) dX1_become_1 ?_
  obtain ⟨u0, hu4, hB⟩ := gB1_some hB
  obtain ⟨v3, s2, hv3, hB⟩ := gB2_some hB
  refine gw_callV (y := yJ25_size) (lw_V q2336 q2337 q2338 q142 q2339) hdV_J25_size gcl13 hu4 (As := []) (rest := []) (m_J25_size _ _ _ _ hv3) (Nat.le_of_ble_eq_true rfl) (Nat.le_of_ble_eq_true rfl) rfl (Nat.le_of_ble_eq_true rfl) dX1_become_4 (gCont_i ?_)
  refine gw_iconst (v := (4 : Int32)) (by decide) dX1_become_7 ?_
  refine gw_icmp_ne (tgt := 23) dX1_become_8 (by decide) (fun hcnd => ?_) (fun hcnd => ?_)
  · rw [if_neg hcnd] at hB
    exact gw_sub [0, 1, 2] rfl (w_X1_become_23  _ _ _ _ hB)
  · rw [if_pos hcnd] at hB
    refine gw_aload_n 0 rfl dX1_become_11 ?_
    obtain ⟨v5, hv5, hB⟩ := gB1_some hB
    refine gw_getf (C := RX1) (T := TX1) (N := 4) (k := 1) gcl0 (by decide) in_X1 q1272 (gfR_spec hv5) dX1_become_12 ?_
    refine gw_iconst (v := (0 : Int32)) (by decide) dX1_become_15 ?_
    obtain ⟨u0, hu8, hB⟩ := gB1_some hB
    obtain ⟨v7, s6, hv7, hB⟩ := gB2_some hB
    refine gw_callV (y := yJ25_remove) (lw_V q2340 q2341 q2342 q142 q2343) hdV_J25_remove gcl13 hu8 (As := [vI (0 : Int32)]) (rest := []) (m_J25_remove _ _ _ _ _ hv7) (Nat.le_of_ble_eq_true rfl) (Nat.le_of_ble_eq_true rfl) rfl (Nat.le_of_ble_eq_true rfl) dX1_become_16 (gCont_i ?_)
    obtain ⟨u0, hu9, hB⟩ := gB1_some hB
    refine gw_cast (C := RX3) gcl7 hu9 q189 (Or.inl rfl) dX1_become_19 ?_
    refine gw_astore_n (L' := [(3, vR v7), (0, vR l0), (1, vR l1), (2, vI l2)]) (Nat.le_of_ble_eq_true rfl) rfl dX1_become_22 ?_
    exact gw_sub [1, 2, 3] rfl (w_X1_become_23  _ _ _ _ hB)
noncomputable def f_X1_become (κ : gK) (F : Nat) (a0 : Option Nat) (a1 : Option Nat) (a2 : Int32) (s : gS) : Option (Int32 × gS) := f_X1_become_0 κ F a0 a1 a2 s
theorem m_X1_become {E : gE} {F : Nat} (a0 : Option Nat) (a1 : Option Nat) (a2 : Int32) (s : gS) (r : Int32) (s' : gS) (h : f_X1_become (gk E) F a0 a1 a2 s = some (r, s')) : gCT E 6 yX1_become (ws_ yX1_become cX1_become 4 (some FieldType.int)) [vR a0, vR a1, vI a2] s (.inl (some (vI r))) s' := by
  refine gCT_of2 (fun h => absurd h (by decide)) (plainFor_of_name (by decide)) (Nat.le_of_ble_eq_true rfl) ?_
  exact gw_sub [0, 1, 2] rfl (w_X1_become_0 _ _ _ _ h)
def dkwX1_abort_0 : List UInt8 := [42, 180, 0, 99, 182, 0, 123, 76, 42, 43, 43, 182, 0, 54, 182, 0, 126, 172]
abbrev dktX1_abort_0 : List UInt8 := dkwX1_abort_0 ++ []
theorem dksX1_abort_0 : cX1_abort.data.toList.drop 0 = dktX1_abort_0 := by decide +kernel
theorem dX1_abort_0 : decode cX1_abort 0 = .ok (.aload_n 0, 1) := dk_42 (dk_at dksX1_abort_0 0 rfl rfl)
theorem dX1_abort_1 : decode cX1_abort 1 = .ok (.getfield 99, 3) := dk_180 0 99 (dk_at dksX1_abort_0 1 rfl rfl)
theorem dX1_abort_4 : decode cX1_abort 4 = .ok (.invokevirtual 123, 3) := dk_182 0 123 (dk_at dksX1_abort_0 4 rfl rfl)
theorem dX1_abort_7 : decode cX1_abort 7 = .ok (.astore_n 1, 1) := dk_76 (dk_at dksX1_abort_0 7 rfl rfl)
theorem dX1_abort_8 : decode cX1_abort 8 = .ok (.aload_n 0, 1) := dk_42 (dk_at dksX1_abort_0 8 rfl rfl)
theorem dX1_abort_9 : decode cX1_abort 9 = .ok (.aload_n 1, 1) := dk_43 (dk_at dksX1_abort_0 9 rfl rfl)
theorem dX1_abort_10 : decode cX1_abort 10 = .ok (.aload_n 1, 1) := dk_43 (dk_at dksX1_abort_0 10 rfl rfl)
theorem dX1_abort_11 : decode cX1_abort 11 = .ok (.invokevirtual 54, 3) := dk_182 0 54 (dk_at dksX1_abort_0 11 rfl rfl)
theorem dX1_abort_14 : decode cX1_abort 14 = .ok (.invokevirtual 126, 3) := dk_182 0 126 (dk_at dksX1_abort_0 14 rfl rfl)
theorem dX1_abort_17 : decode cX1_abort 17 = .ok (.ireturn, 1) := dk_172 (dk_at dksX1_abort_0 17 rfl rfl)
/-! PageGarden.abort()I -/
abbrev M_X1_abort (z0 n0 : Nat) (s' : gS) : gM := (RX1, cX1_abort, 2, (some FieldType.int), "abort", [], 12, z0, n0, s'.2.1, s'.2.2)
abbrev W_X1_abort (E : gE) (z0 n0 : Nat) (r : (Int32 ⊕ String)) (s' : gS) (pc : Nat) (L : List (Nat × gV)) (st : List gV) (s : gS) : Prop := gW E (M_X1_abort z0 n0 s') (gQm E (M_X1_abort z0 n0 s') (gOi r) s') pc L st s
noncomputable def f_X1_abort_0 (κ : gK) (F : Nat)  (l0 : Option Nat) (s : gS) : Option ((Int32 ⊕ String) × gS) :=
  gB1 (gfR s l0 0 0) fun v1 =>
  gB1 (gck s v1 7) fun _ =>
  gB2 (f_X3_copy κ F v1  s) fun v3 s2 =>
  gB1 (gck s2 v3 7) fun _ =>
  gB3 (f_X3_abort κ F v3  s2) fun v6 s5 =>
  gB1 (gck s5 l0 0) fun _ =>
  gB2 (f_X1_become κ F l0 v3 v6 s5) fun v9 s8 =>
  some ((.inl v9), s8)
set_option maxHeartbeats 4000000 in
theorem w_X1_abort_0 {E : gE} {F z0 n0 : Nat} {r : (Int32 ⊕ String)} {s' : gS}   : ∀ (l0 : Option Nat)  (s : gS), f_X1_abort_0 (gk E) F  l0 s = some (r, s') → W_X1_abort E z0 n0 r s' 0 [(0, vR l0)] [] s := by
  intro l0 s hB
  unfold f_X1_abort_0 at hB
  refine gw_aload_n 0 rfl dX1_abort_0 ?_
  obtain ⟨v1, hv1, hB⟩ := gB1_some hB
  refine gw_getf (C := RX1) (T := TX1) (N := 4) (k := 0) gcl0 (by decide) in_X1 q1271 (gfR_spec hv1) dX1_abort_1 ?_
  obtain ⟨u0, hu4, hB⟩ := gB1_some hB
  obtain ⟨v3, s2, hv3, hB⟩ := gB2_some hB
  refine gw_callV (y := yX3_copy) (lw_V q1409 q1410 q1411 q110 q1412) hdV_X3_copy gcl7 hu4 (As := []) (rest := []) (m_X3_copy _ _ _ _ hv3) (Nat.le_of_ble_eq_true rfl) (Nat.le_of_ble_eq_true rfl) rfl (Nat.le_of_ble_eq_true rfl) dX1_abort_4 (gCont_i ?_)
  refine gw_astore_n (L' := [(1, vR v3), (0, vR l0)]) (Nat.le_of_ble_eq_true rfl) rfl dX1_abort_7 ?_
  refine gw_aload_n 1 rfl dX1_abort_8 ?_
  refine gw_aload_n 0 rfl dX1_abort_9 ?_
  refine gw_aload_n 0 rfl dX1_abort_10 ?_
  obtain ⟨u0, hu7, hB⟩ := gB1_some hB
  rcases gB3_some hB with ⟨v6, s5, hv6, hB⟩ | ⟨Cv6, hv6, hzv6⟩
  rotate_left
  · subst hzv6
    exact gw_callV (y := yX3_abort) (lw_V q2308 q2309 q2310 q110 q2311) hdV_X3_abort gcl7 hu7 (As := []) (rest := [vR v3, vR l0]) (m_X3_abort _ _ _ _ hv6) (Nat.le_of_ble_eq_true rfl) (Nat.le_of_ble_eq_true rfl) rfl (Nat.le_of_ble_eq_true rfl) dX1_abort_11 (gCont_x (gx_out rfl rfl rfl))
  refine gw_callV (y := yX3_abort) (lw_V q2308 q2309 q2310 q110 q2311) hdV_X3_abort gcl7 hu7 (As := []) (rest := [vR v3, vR l0]) (m_X3_abort _ _ _ _ hv6) (Nat.le_of_ble_eq_true rfl) (Nat.le_of_ble_eq_true rfl) rfl (Nat.le_of_ble_eq_true rfl) dX1_abort_11 (gCont_i ?_)
  obtain ⟨u0, hu10, hB⟩ := gB1_some hB
  obtain ⟨v9, s8, hv9, hB⟩ := gB2_some hB
  refine gw_callV (y := yX1_become) (lw_V q2332 q2334 qs36 q108 q2335) hdV_X1_become gcl0 hu10 (As := [vR v3, vI v6]) (rest := []) (m_X1_become _ _ _ _ _ _ hv9) (Nat.le_of_ble_eq_true rfl) (Nat.le_of_ble_eq_true rfl) rfl (Nat.le_of_ble_eq_true rfl) dX1_abort_14 (gCont_i ?_)
  obtain ⟨rfl, rfl⟩ := Prod.mk.inj (Option.some.inj hB)
  exact gw_iret rfl rfl rfl dX1_abort_17
noncomputable def f_X1_abort (κ : gK) (F : Nat) (a0 : Option Nat) (s : gS) : Option ((Int32 ⊕ String) × gS) := f_X1_abort_0 κ F a0 s
theorem m_X1_abort {E : gE} {F : Nat} (a0 : Option Nat) (s : gS) (r : (Int32 ⊕ String)) (s' : gS) (h : f_X1_abort (gk E) F a0 s = some (r, s')) : gCT E 12 yX1_abort (ws_ yX1_abort cX1_abort 2 (some FieldType.int)) [vR a0] s (gOi r) s' := by
  refine gCT_of2 (fun h => absurd h (by decide)) (plainFor_of_name (by decide)) (Nat.le_of_ble_eq_true rfl) ?_
  exact gw_sub [0] rfl (w_X1_abort_0 _ _ h)
def dkwX1_requireWhat_0 : List UInt8 := [26, 133, 9, 27, 4, 100, 133, 184, 0, 130, 18, 134, 184, 0, 136, 177]
abbrev dktX1_requireWhat_0 : List UInt8 := dkwX1_requireWhat_0 ++ []
theorem dksX1_requireWhat_0 : cX1_requireWhat.data.toList.drop 0 = dktX1_requireWhat_0 := by decide +kernel
theorem dX1_requireWhat_0 : decode cX1_requireWhat 0 = .ok (.iload_n 0, 1) := dk_26 (dk_at dksX1_requireWhat_0 0 rfl rfl)
theorem dX1_requireWhat_1 : decode cX1_requireWhat 1 = .ok (.i2l, 1) := dk_133 (dk_at dksX1_requireWhat_0 1 rfl rfl)
theorem dX1_requireWhat_2 : decode cX1_requireWhat 2 = .ok (.lconst 0, 1) := dk_9 (dk_at dksX1_requireWhat_0 2 rfl rfl)
theorem dX1_requireWhat_3 : decode cX1_requireWhat 3 = .ok (.iload_n 1, 1) := dk_27 (dk_at dksX1_requireWhat_0 3 rfl rfl)
theorem dX1_requireWhat_4 : decode cX1_requireWhat 4 = .ok (.iconst 1, 1) := dk_4 (dk_at dksX1_requireWhat_0 4 rfl rfl)
theorem dX1_requireWhat_5 : decode cX1_requireWhat 5 = .ok (.isub, 1) := dk_100 (dk_at dksX1_requireWhat_0 5 rfl rfl)
theorem dX1_requireWhat_6 : decode cX1_requireWhat 6 = .ok (.i2l, 1) := dk_133 (dk_at dksX1_requireWhat_0 6 rfl rfl)
theorem dX1_requireWhat_7 : decode cX1_requireWhat 7 = .ok (.invokestatic 130, 3) := dk_184 0 130 (dk_at dksX1_requireWhat_0 7 rfl rfl)
theorem dX1_requireWhat_10 : decode cX1_requireWhat 10 = .ok (.ldc 134, 2) := dk_18 134 (dk_at dksX1_requireWhat_0 10 rfl rfl)
theorem dX1_requireWhat_12 : decode cX1_requireWhat 12 = .ok (.invokestatic 136, 3) := dk_184 0 136 (dk_at dksX1_requireWhat_0 12 rfl rfl)
theorem dX1_requireWhat_15 : decode cX1_requireWhat 15 = .ok (.return_, 1) := dk_177 (dk_at dksX1_requireWhat_0 15 rfl rfl)
/-! PageGarden.requireWhat(II)V -/
abbrev M_X1_requireWhat (z0 n0 : Nat) (s' : gS) : gM := (RX1, cX1_requireWhat, 2, none, "requireWhat", [], 10, z0, n0, s'.2.1, s'.2.2)
abbrev W_X1_requireWhat (E : gE) (z0 n0 : Nat) (r : (Unit ⊕ String)) (s' : gS) (pc : Nat) (L : List (Nat × gV)) (st : List gV) (s : gS) : Prop := gW E (M_X1_requireWhat z0 n0 s') (gQm E (M_X1_requireWhat z0 n0 s') (gOv r) s') pc L st s
noncomputable def f_X1_requireWhat_0 (κ : gK) (F : Nat)  (l0 : Int32) (l1 : Int32) (s : gS) : Option ((Unit ⊕ String) × gS) :=
  gB2 (f_X1_inRange κ F (l0.toInt64) (0 : Int64) ((l1 - (1 : Int32)).toInt64) s) fun v2 s1 =>
  gB3 (f_X1_requireArgument κ F v2 (κ.2 17) s1) fun v4 s3 =>
  some ((.inl ()), s3)
set_option maxHeartbeats 4000000 in
theorem w_X1_requireWhat_0 {E : gE} {F z0 n0 : Nat} {r : (Unit ⊕ String)} {s' : gS}   : ∀ (l0 : Int32) (l1 : Int32)  (s : gS), f_X1_requireWhat_0 (gk E) F  l0 l1 s = some (r, s') → W_X1_requireWhat E z0 n0 r s' 0 [(0, vI l0), (1, vI l1)] [] s := by
  intro l0 l1 s hB
  unfold f_X1_requireWhat_0 at hB
  refine gw_iload_n 0 rfl dX1_requireWhat_0 ?_
  refine gw_i2l dX1_requireWhat_1 ?_
  refine gw_lconst (v := (0 : Int64)) (by decide) dX1_requireWhat_2 ?_
  refine gw_iload_n 1 rfl dX1_requireWhat_3 ?_
  refine gw_iconst (v := (1 : Int32)) (by decide) dX1_requireWhat_4 ?_
  refine gw_isub dX1_requireWhat_5 ?_
  refine gw_i2l dX1_requireWhat_6 ?_
  obtain ⟨v2, s1, hv2, hB⟩ := gB2_some hB
  refine gw_callS (y := yX1_inRange) (lw_S q2582 q1362 q108 q1363) hdS_X1_inRange (As := [vJ (l0.toInt64), vJ (0 : Int64), vJ ((l1 - (1 : Int32)).toInt64)]) (rest := []) (m_X1_inRange _ _ _ _ _ _ hv2) (Nat.le_of_ble_eq_true rfl) (Nat.le_of_ble_eq_true rfl) rfl (Nat.le_of_ble_eq_true rfl) dX1_requireWhat_7 (gCont_i ?_)
  refine gw_ldcS (own := "PageGarden") (tx := "what") (i := 17) rfl (by decide) dX1_requireWhat_10 ?_
  rcases gB3_some hB with ⟨v4, s3, hv4, hB⟩ | ⟨Cv4, hv4, hzv4⟩
  rotate_left
  · subst hzv4
    exact gw_callS (y := yX1_requireArgument) (lw_S q2589 q2002 q108 q2003) hdS_X1_requireArgument (As := [vI v2, vR ((gk E).2 17)]) (rest := []) (m_X1_requireArgument _ _ _ _ _ hv4) (Nat.le_of_ble_eq_true rfl) (Nat.le_of_ble_eq_true rfl) rfl (Nat.le_of_ble_eq_true rfl) dX1_requireWhat_12 (gCont_x (gx_out rfl rfl rfl))
  refine gw_callS (y := yX1_requireArgument) (lw_S q2589 q2002 q108 q2003) hdS_X1_requireArgument (As := [vI v2, vR ((gk E).2 17)]) (rest := []) (m_X1_requireArgument _ _ _ _ _ hv4) (Nat.le_of_ble_eq_true rfl) (Nat.le_of_ble_eq_true rfl) rfl (Nat.le_of_ble_eq_true rfl) dX1_requireWhat_12 (gCont_v ?_)
  obtain ⟨rfl, rfl⟩ := Prod.mk.inj (Option.some.inj hB)
  exact gw_vret rfl rfl rfl dX1_requireWhat_15
noncomputable def f_X1_requireWhat (κ : gK) (F : Nat) (a1 : Int32) (a2 : Int32) (s : gS) : Option ((Unit ⊕ String) × gS) := f_X1_requireWhat_0 κ F a1 a2 s
theorem m_X1_requireWhat {E : gE} {F : Nat} (a1 : Int32) (a2 : Int32) (s : gS) (r : (Unit ⊕ String)) (s' : gS) (h : f_X1_requireWhat (gk E) F a1 a2 s = some (r, s')) : gCT E 10 yX1_requireWhat (ws_ yX1_requireWhat cX1_requireWhat 2 none) [vI a1, vI a2] s (gOv r) s' := by
  refine gCT_of2 (fun h => absurd h (by decide)) (plainFor_of_name (by decide)) (Nat.le_of_ble_eq_true rfl) ?_
  exact gw_sub [0, 1] rfl (w_X1_requireWhat_0 _ _ _ h)
def dkwX1_bed_1 : List UInt8 := [27, 28, 182, 0, 195, 172]
abbrev dktX1_bed_1 : List UInt8 := dkwX1_bed_1 ++ []
def dkwX1_bed_0 : List UInt8 := [27, 133, 9, 20, 0, 191, 184, 0, 130, 18, 193, 184, 0, 173, 28, 16, 6, 184, 0, 176, 42, 180, 0, 99]
abbrev dktX1_bed_0 : List UInt8 := dkwX1_bed_0 ++ dktX1_bed_1
theorem dksX1_bed_0 : cX1_bed.data.toList.drop 0 = dktX1_bed_0 := by decide +kernel
theorem dksX1_bed_1 : cX1_bed.data.toList.drop 24 = dktX1_bed_1 := dk_seg dksX1_bed_0 24 rfl rfl
theorem dX1_bed_0 : decode cX1_bed 0 = .ok (.iload_n 1, 1) := dk_27 (dk_at dksX1_bed_0 0 rfl rfl)
theorem dX1_bed_1 : decode cX1_bed 1 = .ok (.i2l, 1) := dk_133 (dk_at dksX1_bed_0 1 rfl rfl)
theorem dX1_bed_2 : decode cX1_bed 2 = .ok (.lconst 0, 1) := dk_9 (dk_at dksX1_bed_0 2 rfl rfl)
theorem dX1_bed_3 : decode cX1_bed 3 = .ok (.ldc2_w 191, 3) := dk_20 0 191 (dk_at dksX1_bed_0 3 rfl rfl)
theorem dX1_bed_6 : decode cX1_bed 6 = .ok (.invokestatic 130, 3) := dk_184 0 130 (dk_at dksX1_bed_0 6 rfl rfl)
theorem dX1_bed_9 : decode cX1_bed 9 = .ok (.ldc 193, 2) := dk_18 193 (dk_at dksX1_bed_0 9 rfl rfl)
theorem dX1_bed_11 : decode cX1_bed 11 = .ok (.invokestatic 173, 3) := dk_184 0 173 (dk_at dksX1_bed_0 11 rfl rfl)
theorem dX1_bed_14 : decode cX1_bed 14 = .ok (.iload_n 2, 1) := dk_28 (dk_at dksX1_bed_0 14 rfl rfl)
theorem dX1_bed_15 : decode cX1_bed 15 = .ok (.bipush 6, 2) := dk_16 6 (dk_at dksX1_bed_0 15 rfl rfl)
theorem dX1_bed_17 : decode cX1_bed 17 = .ok (.invokestatic 176, 3) := dk_184 0 176 (dk_at dksX1_bed_0 17 rfl rfl)
theorem dX1_bed_20 : decode cX1_bed 20 = .ok (.aload_n 0, 1) := dk_42 (dk_at dksX1_bed_0 20 rfl rfl)
theorem dX1_bed_21 : decode cX1_bed 21 = .ok (.getfield 99, 3) := dk_180 0 99 (dk_at dksX1_bed_0 21 rfl rfl)
theorem dX1_bed_24 : decode cX1_bed 24 = .ok (.iload_n 1, 1) := dk_27 (dk_at dksX1_bed_1 0 rfl rfl)
theorem dX1_bed_25 : decode cX1_bed 25 = .ok (.iload_n 2, 1) := dk_28 (dk_at dksX1_bed_1 1 rfl rfl)
theorem dX1_bed_26 : decode cX1_bed 26 = .ok (.invokevirtual 195, 3) := dk_182 0 195 (dk_at dksX1_bed_1 2 rfl rfl)
theorem dX1_bed_29 : decode cX1_bed 29 = .ok (.ireturn, 1) := dk_172 (dk_at dksX1_bed_1 5 rfl rfl)
/-! PageGarden.bed(II)I -/
abbrev M_X1_bed (z0 n0 : Nat) (s' : gS) : gM := (RX1, cX1_bed, 3, (some FieldType.int), "bed", [], 11, z0, n0, s'.2.1, s'.2.2)
abbrev W_X1_bed (E : gE) (z0 n0 : Nat) (r : (Int32 ⊕ String)) (s' : gS) (pc : Nat) (L : List (Nat × gV)) (st : List gV) (s : gS) : Prop := gW E (M_X1_bed z0 n0 s') (gQm E (M_X1_bed z0 n0 s') (gOi r) s') pc L st s
noncomputable def f_X1_bed_0 (κ : gK) (F : Nat)  (l0 : Option Nat) (l1 : Int32) (l2 : Int32) (s : gS) : Option ((Int32 ⊕ String) × gS) :=
  gB2 (f_X1_inRange κ F (l1.toInt64) (0 : Int64) (31 : Int64) s) fun v2 s1 =>
  gB3 (f_X1_requireIndex κ F v2 (κ.2 20) s1) fun v4 s3 =>
  gB3 (f_X1_requireWhat κ F l2 (6 : Int32) s3) fun v6 s5 =>
  gB1 (gfR s5 l0 0 0) fun v7 =>
  gB1 (gck s5 v7 7) fun _ =>
  gB2 (f_X3_bedValue κ F v7 l1 l2 s5) fun v9 s8 =>
  some ((.inl v9), s8)
set_option maxHeartbeats 4000000 in
theorem w_X1_bed_0 {E : gE} {F z0 n0 : Nat} {r : (Int32 ⊕ String)} {s' : gS}   : ∀ (l0 : Option Nat) (l1 : Int32) (l2 : Int32)  (s : gS), f_X1_bed_0 (gk E) F  l0 l1 l2 s = some (r, s') → W_X1_bed E z0 n0 r s' 0 [(0, vR l0), (1, vI l1), (2, vI l2)] [] s := by
  intro l0 l1 l2 s hB
  unfold f_X1_bed_0 at hB
  refine gw_iload_n 1 rfl dX1_bed_0 ?_
  refine gw_i2l dX1_bed_1 ?_
  refine gw_lconst (v := (0 : Int64)) (by decide) dX1_bed_2 ?_
  refine gw_ldc2 (31 : Int64) q2390 dX1_bed_3 ?_
  obtain ⟨v2, s1, hv2, hB⟩ := gB2_some hB
  refine gw_callS (y := yX1_inRange) (lw_S q2582 q1362 q108 q1363) hdS_X1_inRange (As := [vJ (l1.toInt64), vJ (0 : Int64), vJ (31 : Int64)]) (rest := []) (m_X1_inRange _ _ _ _ _ _ hv2) (Nat.le_of_ble_eq_true rfl) (Nat.le_of_ble_eq_true rfl) rfl (Nat.le_of_ble_eq_true rfl) dX1_bed_6 (gCont_i ?_)
  refine gw_ldcS (own := "PageGarden") (tx := "bed") (i := 20) rfl (by decide) dX1_bed_9 ?_
  rcases gB3_some hB with ⟨v4, s3, hv4, hB⟩ | ⟨Cv4, hv4, hzv4⟩
  rotate_left
  · subst hzv4
    exact gw_callS (y := yX1_requireIndex) (lw_S q2584 q2282 q108 q2283) hdS_X1_requireIndex (As := [vI v2, vR ((gk E).2 20)]) (rest := []) (m_X1_requireIndex _ _ _ _ _ hv4) (Nat.le_of_ble_eq_true rfl) (Nat.le_of_ble_eq_true rfl) rfl (Nat.le_of_ble_eq_true rfl) dX1_bed_11 (gCont_x (gx_out rfl rfl rfl))
  refine gw_callS (y := yX1_requireIndex) (lw_S q2584 q2282 q108 q2283) hdS_X1_requireIndex (As := [vI v2, vR ((gk E).2 20)]) (rest := []) (m_X1_requireIndex _ _ _ _ _ hv4) (Nat.le_of_ble_eq_true rfl) (Nat.le_of_ble_eq_true rfl) rfl (Nat.le_of_ble_eq_true rfl) dX1_bed_11 (gCont_v ?_)
  refine gw_iload_n 2 rfl dX1_bed_14 ?_
  refine gw_bipush (v := (6 : Int32)) (by decide) dX1_bed_15 ?_
  rcases gB3_some hB with ⟨v6, s5, hv6, hB⟩ | ⟨Cv6, hv6, hzv6⟩
  rotate_left
  · subst hzv6
    exact gw_callS (y := yX1_requireWhat) (lw_S q2585 q2586 q108 q2587) hdS_X1_requireWhat (As := [vI l2, vI (6 : Int32)]) (rest := []) (m_X1_requireWhat _ _ _ _ _ hv6) (Nat.le_of_ble_eq_true rfl) (Nat.le_of_ble_eq_true rfl) rfl (Nat.le_of_ble_eq_true rfl) dX1_bed_17 (gCont_x (gx_out rfl rfl rfl))
  refine gw_callS (y := yX1_requireWhat) (lw_S q2585 q2586 q108 q2587) hdS_X1_requireWhat (As := [vI l2, vI (6 : Int32)]) (rest := []) (m_X1_requireWhat _ _ _ _ _ hv6) (Nat.le_of_ble_eq_true rfl) (Nat.le_of_ble_eq_true rfl) rfl (Nat.le_of_ble_eq_true rfl) dX1_bed_17 (gCont_v ?_)
  refine gw_aload_n 0 rfl dX1_bed_20 ?_
  obtain ⟨v7, hv7, hB⟩ := gB1_some hB
  refine gw_getf (C := RX1) (T := TX1) (N := 4) (k := 0) gcl0 (by decide) in_X1 q1271 (gfR_spec hv7) dX1_bed_21 ?_
  refine gw_iload_n 1 rfl dX1_bed_24 ?_
  refine gw_iload_n 2 rfl dX1_bed_25 ?_
  obtain ⟨u0, hu10, hB⟩ := gB1_some hB
  obtain ⟨v9, s8, hv9, hB⟩ := gB2_some hB
  refine gw_callV (y := yX3_bedValue) (lw_V q2459 q2460 q2461 q110 q2462) hdV_X3_bedValue gcl7 hu10 (As := [vI l1, vI l2]) (rest := []) (m_X3_bedValue _ _ _ _ _ _ hv9) (Nat.le_of_ble_eq_true rfl) (Nat.le_of_ble_eq_true rfl) rfl (Nat.le_of_ble_eq_true rfl) dX1_bed_26 (gCont_i ?_)
  obtain ⟨rfl, rfl⟩ := Prod.mk.inj (Option.some.inj hB)
  exact gw_iret rfl rfl rfl dX1_bed_29
noncomputable def f_X1_bed (κ : gK) (F : Nat) (a0 : Option Nat) (a1 : Int32) (a2 : Int32) (s : gS) : Option ((Int32 ⊕ String) × gS) := f_X1_bed_0 κ F a0 a1 a2 s
theorem m_X1_bed {E : gE} {F : Nat} (a0 : Option Nat) (a1 : Int32) (a2 : Int32) (s : gS) (r : (Int32 ⊕ String)) (s' : gS) (h : f_X1_bed (gk E) F a0 a1 a2 s = some (r, s')) : gCT E 11 yX1_bed (ws_ yX1_bed cX1_bed 3 (some FieldType.int)) [vR a0, vI a1, vI a2] s (gOi r) s' := by
  refine gCT_of2 (fun h => absurd h (by decide)) (plainFor_of_name (by decide)) (Nat.le_of_ble_eq_true rfl) ?_
  exact gw_sub [0, 1, 2] rfl (w_X1_bed_0 _ _ _ _ h)
def dkwX1_bedsFor_0 : List UInt8 := [27, 184, 0, 140, 42, 180, 0, 99, 27, 182, 0, 207, 172]
abbrev dktX1_bedsFor_0 : List UInt8 := dkwX1_bedsFor_0 ++ []
theorem dksX1_bedsFor_0 : cX1_bedsFor.data.toList.drop 0 = dktX1_bedsFor_0 := by decide +kernel
theorem dX1_bedsFor_0 : decode cX1_bedsFor 0 = .ok (.iload_n 1, 1) := dk_27 (dk_at dksX1_bedsFor_0 0 rfl rfl)
theorem dX1_bedsFor_1 : decode cX1_bedsFor 1 = .ok (.invokestatic 140, 3) := dk_184 0 140 (dk_at dksX1_bedsFor_0 1 rfl rfl)
theorem dX1_bedsFor_4 : decode cX1_bedsFor 4 = .ok (.aload_n 0, 1) := dk_42 (dk_at dksX1_bedsFor_0 4 rfl rfl)
theorem dX1_bedsFor_5 : decode cX1_bedsFor 5 = .ok (.getfield 99, 3) := dk_180 0 99 (dk_at dksX1_bedsFor_0 5 rfl rfl)
theorem dX1_bedsFor_8 : decode cX1_bedsFor 8 = .ok (.iload_n 1, 1) := dk_27 (dk_at dksX1_bedsFor_0 8 rfl rfl)
theorem dX1_bedsFor_9 : decode cX1_bedsFor 9 = .ok (.invokevirtual 207, 3) := dk_182 0 207 (dk_at dksX1_bedsFor_0 9 rfl rfl)
theorem dX1_bedsFor_12 : decode cX1_bedsFor 12 = .ok (.ireturn, 1) := dk_172 (dk_at dksX1_bedsFor_0 12 rfl rfl)
/-! PageGarden.bedsFor(I)I -/
abbrev M_X1_bedsFor (z0 n0 : Nat) (s' : gS) : gM := (RX1, cX1_bedsFor, 2, (some FieldType.int), "bedsFor", [], 12, z0, n0, s'.2.1, s'.2.2)
abbrev W_X1_bedsFor (E : gE) (z0 n0 : Nat) (r : (Int32 ⊕ String)) (s' : gS) (pc : Nat) (L : List (Nat × gV)) (st : List gV) (s : gS) : Prop := gW E (M_X1_bedsFor z0 n0 s') (gQm E (M_X1_bedsFor z0 n0 s') (gOi r) s') pc L st s
noncomputable def f_X1_bedsFor_0 (κ : gK) (F : Nat)  (l0 : Option Nat) (l1 : Int32) (s : gS) : Option ((Int32 ⊕ String) × gS) :=
  gB3 (f_X3_requireKey κ F l1 s) fun v2 s1 =>
  gB1 (gfR s1 l0 0 0) fun v3 =>
  gB1 (gck s1 v3 7) fun _ =>
  gB3 (f_X3_bedsFor κ F v3 l1 s1) fun v5 s4 =>
  some ((.inl v5), s4)
set_option maxHeartbeats 4000000 in
theorem w_X1_bedsFor_0 {E : gE} {F z0 n0 : Nat} {r : (Int32 ⊕ String)} {s' : gS}   : ∀ (l0 : Option Nat) (l1 : Int32)  (s : gS), f_X1_bedsFor_0 (gk E) F  l0 l1 s = some (r, s') → W_X1_bedsFor E z0 n0 r s' 0 [(0, vR l0), (1, vI l1)] [] s := by
  intro l0 l1 s hB
  unfold f_X1_bedsFor_0 at hB
  refine gw_iload_n 1 rfl dX1_bedsFor_0 ?_
  rcases gB3_some hB with ⟨v2, s1, hv2, hB⟩ | ⟨Cv2, hv2, hzv2⟩
  rotate_left
  · subst hzv2
    exact gw_callS (y := yX3_requireKey) (lw_S q2553 q1993 q110 q1994) hdS_X3_requireKey (As := [vI l1]) (rest := []) (m_X3_requireKey _ _ _ _ hv2) (Nat.le_of_ble_eq_true rfl) (Nat.le_of_ble_eq_true rfl) rfl (Nat.le_of_ble_eq_true rfl) dX1_bedsFor_1 (gCont_x (gx_out rfl rfl rfl))
  refine gw_callS (y := yX3_requireKey) (lw_S q2553 q1993 q110 q1994) hdS_X3_requireKey (As := [vI l1]) (rest := []) (m_X3_requireKey _ _ _ _ hv2) (Nat.le_of_ble_eq_true rfl) (Nat.le_of_ble_eq_true rfl) rfl (Nat.le_of_ble_eq_true rfl) dX1_bedsFor_1 (gCont_v ?_)
  refine gw_aload_n 0 rfl dX1_bedsFor_4 ?_
  obtain ⟨v3, hv3, hB⟩ := gB1_some hB
  refine gw_getf (C := RX1) (T := TX1) (N := 4) (k := 0) gcl0 (by decide) in_X1 q1271 (gfR_spec hv3) dX1_bedsFor_5 ?_
  refine gw_iload_n 1 rfl dX1_bedsFor_8 ?_
  obtain ⟨u0, hu6, hB⟩ := gB1_some hB
  rcases gB3_some hB with ⟨v5, s4, hv5, hB⟩ | ⟨Cv5, hv5, hzv5⟩
  rotate_left
  · subst hzv5
    exact gw_callV (y := yX3_bedsFor) (lw_V q2627 q2038 q2039 q110 q2040) hdV_X3_bedsFor gcl7 hu6 (As := [vI l1]) (rest := []) (m_X3_bedsFor _ _ _ _ _ hv5) (Nat.le_of_ble_eq_true rfl) (Nat.le_of_ble_eq_true rfl) rfl (Nat.le_of_ble_eq_true rfl) dX1_bedsFor_9 (gCont_x (gx_out rfl rfl rfl))
  refine gw_callV (y := yX3_bedsFor) (lw_V q2627 q2038 q2039 q110 q2040) hdV_X3_bedsFor gcl7 hu6 (As := [vI l1]) (rest := []) (m_X3_bedsFor _ _ _ _ _ hv5) (Nat.le_of_ble_eq_true rfl) (Nat.le_of_ble_eq_true rfl) rfl (Nat.le_of_ble_eq_true rfl) dX1_bedsFor_9 (gCont_i ?_)
  obtain ⟨rfl, rfl⟩ := Prod.mk.inj (Option.some.inj hB)
  exact gw_iret rfl rfl rfl dX1_bedsFor_12
noncomputable def f_X1_bedsFor (κ : gK) (F : Nat) (a0 : Option Nat) (a1 : Int32) (s : gS) : Option ((Int32 ⊕ String) × gS) := f_X1_bedsFor_0 κ F a0 a1 s
theorem m_X1_bedsFor {E : gE} {F : Nat} (a0 : Option Nat) (a1 : Int32) (s : gS) (r : (Int32 ⊕ String)) (s' : gS) (h : f_X1_bedsFor (gk E) F a0 a1 s = some (r, s')) : gCT E 12 yX1_bedsFor (ws_ yX1_bedsFor cX1_bedsFor 2 (some FieldType.int)) [vR a0, vI a1] s (gOi r) s' := by
  refine gCT_of2 (fun h => absurd h (by decide)) (plainFor_of_name (by decide)) (Nat.le_of_ble_eq_true rfl) ?_
  exact gw_sub [0, 1] rfl (w_X1_bedsFor_0 _ _ _ h)
def dkwX1_begin_0 : List UInt8 := [42, 180, 0, 99, 182, 0, 123, 76, 42, 43, 43, 182, 0, 52, 182, 0, 126, 172]
abbrev dktX1_begin_0 : List UInt8 := dkwX1_begin_0 ++ []
theorem dksX1_begin_0 : cX1_begin.data.toList.drop 0 = dktX1_begin_0 := by decide +kernel
theorem dX1_begin_0 : decode cX1_begin 0 = .ok (.aload_n 0, 1) := dk_42 (dk_at dksX1_begin_0 0 rfl rfl)
theorem dX1_begin_1 : decode cX1_begin 1 = .ok (.getfield 99, 3) := dk_180 0 99 (dk_at dksX1_begin_0 1 rfl rfl)
theorem dX1_begin_4 : decode cX1_begin 4 = .ok (.invokevirtual 123, 3) := dk_182 0 123 (dk_at dksX1_begin_0 4 rfl rfl)
theorem dX1_begin_7 : decode cX1_begin 7 = .ok (.astore_n 1, 1) := dk_76 (dk_at dksX1_begin_0 7 rfl rfl)
theorem dX1_begin_8 : decode cX1_begin 8 = .ok (.aload_n 0, 1) := dk_42 (dk_at dksX1_begin_0 8 rfl rfl)
theorem dX1_begin_9 : decode cX1_begin 9 = .ok (.aload_n 1, 1) := dk_43 (dk_at dksX1_begin_0 9 rfl rfl)
theorem dX1_begin_10 : decode cX1_begin 10 = .ok (.aload_n 1, 1) := dk_43 (dk_at dksX1_begin_0 10 rfl rfl)
theorem dX1_begin_11 : decode cX1_begin 11 = .ok (.invokevirtual 52, 3) := dk_182 0 52 (dk_at dksX1_begin_0 11 rfl rfl)
theorem dX1_begin_14 : decode cX1_begin 14 = .ok (.invokevirtual 126, 3) := dk_182 0 126 (dk_at dksX1_begin_0 14 rfl rfl)
theorem dX1_begin_17 : decode cX1_begin 17 = .ok (.ireturn, 1) := dk_172 (dk_at dksX1_begin_0 17 rfl rfl)
/-! PageGarden.begin()I -/
abbrev M_X1_begin (z0 n0 : Nat) (s' : gS) : gM := (RX1, cX1_begin, 2, (some FieldType.int), "begin", [], 11, z0, n0, s'.2.1, s'.2.2)
abbrev W_X1_begin (E : gE) (z0 n0 : Nat) (r : (Int32 ⊕ String)) (s' : gS) (pc : Nat) (L : List (Nat × gV)) (st : List gV) (s : gS) : Prop := gW E (M_X1_begin z0 n0 s') (gQm E (M_X1_begin z0 n0 s') (gOi r) s') pc L st s
noncomputable def f_X1_begin_0 (κ : gK) (F : Nat)  (l0 : Option Nat) (s : gS) : Option ((Int32 ⊕ String) × gS) :=
  gB1 (gfR s l0 0 0) fun v1 =>
  gB1 (gck s v1 7) fun _ =>
  gB2 (f_X3_copy κ F v1  s) fun v3 s2 =>
  gB1 (gck s2 v3 7) fun _ =>
  gB3 (f_X3_begin κ F v3  s2) fun v6 s5 =>
  gB1 (gck s5 l0 0) fun _ =>
  gB2 (f_X1_become κ F l0 v3 v6 s5) fun v9 s8 =>
  some ((.inl v9), s8)
set_option maxHeartbeats 4000000 in
theorem w_X1_begin_0 {E : gE} {F z0 n0 : Nat} {r : (Int32 ⊕ String)} {s' : gS}   : ∀ (l0 : Option Nat)  (s : gS), f_X1_begin_0 (gk E) F  l0 s = some (r, s') → W_X1_begin E z0 n0 r s' 0 [(0, vR l0)] [] s := by
  intro l0 s hB
  unfold f_X1_begin_0 at hB
  refine gw_aload_n 0 rfl dX1_begin_0 ?_
  obtain ⟨v1, hv1, hB⟩ := gB1_some hB
  refine gw_getf (C := RX1) (T := TX1) (N := 4) (k := 0) gcl0 (by decide) in_X1 q1271 (gfR_spec hv1) dX1_begin_1 ?_
  obtain ⟨u0, hu4, hB⟩ := gB1_some hB
  obtain ⟨v3, s2, hv3, hB⟩ := gB2_some hB
  refine gw_callV (y := yX3_copy) (lw_V q1409 q1410 q1411 q110 q1412) hdV_X3_copy gcl7 hu4 (As := []) (rest := []) (m_X3_copy _ _ _ _ hv3) (Nat.le_of_ble_eq_true rfl) (Nat.le_of_ble_eq_true rfl) rfl (Nat.le_of_ble_eq_true rfl) dX1_begin_4 (gCont_i ?_)
  refine gw_astore_n (L' := [(1, vR v3), (0, vR l0)]) (Nat.le_of_ble_eq_true rfl) rfl dX1_begin_7 ?_
  refine gw_aload_n 1 rfl dX1_begin_8 ?_
  refine gw_aload_n 0 rfl dX1_begin_9 ?_
  refine gw_aload_n 0 rfl dX1_begin_10 ?_
  obtain ⟨u0, hu7, hB⟩ := gB1_some hB
  rcases gB3_some hB with ⟨v6, s5, hv6, hB⟩ | ⟨Cv6, hv6, hzv6⟩
  rotate_left
  · subst hzv6
    exact gw_callV (y := yX3_begin) (lw_V q2301 q2302 q2303 q110 q2304) hdV_X3_begin gcl7 hu7 (As := []) (rest := [vR v3, vR l0]) (m_X3_begin _ _ _ _ hv6) (Nat.le_of_ble_eq_true rfl) (Nat.le_of_ble_eq_true rfl) rfl (Nat.le_of_ble_eq_true rfl) dX1_begin_11 (gCont_x (gx_out rfl rfl rfl))
  refine gw_callV (y := yX3_begin) (lw_V q2301 q2302 q2303 q110 q2304) hdV_X3_begin gcl7 hu7 (As := []) (rest := [vR v3, vR l0]) (m_X3_begin _ _ _ _ hv6) (Nat.le_of_ble_eq_true rfl) (Nat.le_of_ble_eq_true rfl) rfl (Nat.le_of_ble_eq_true rfl) dX1_begin_11 (gCont_i ?_)
  obtain ⟨u0, hu10, hB⟩ := gB1_some hB
  obtain ⟨v9, s8, hv9, hB⟩ := gB2_some hB
  refine gw_callV (y := yX1_become) (lw_V q2332 q2334 qs36 q108 q2335) hdV_X1_become gcl0 hu10 (As := [vR v3, vI v6]) (rest := []) (m_X1_become _ _ _ _ _ _ hv9) (Nat.le_of_ble_eq_true rfl) (Nat.le_of_ble_eq_true rfl) rfl (Nat.le_of_ble_eq_true rfl) dX1_begin_14 (gCont_i ?_)
  obtain ⟨rfl, rfl⟩ := Prod.mk.inj (Option.some.inj hB)
  exact gw_iret rfl rfl rfl dX1_begin_17
noncomputable def f_X1_begin (κ : gK) (F : Nat) (a0 : Option Nat) (s : gS) : Option ((Int32 ⊕ String) × gS) := f_X1_begin_0 κ F a0 s
theorem m_X1_begin {E : gE} {F : Nat} (a0 : Option Nat) (s : gS) (r : (Int32 ⊕ String)) (s' : gS) (h : f_X1_begin (gk E) F a0 s = some (r, s')) : gCT E 11 yX1_begin (ws_ yX1_begin cX1_begin 2 (some FieldType.int)) [vR a0] s (gOi r) s' := by
  refine gCT_of2 (fun h => absurd h (by decide)) (plainFor_of_name (by decide)) (Nat.le_of_ble_eq_true rfl) ?_
  exact gw_sub [0] rfl (w_X1_begin_0 _ _ h)
def dkwX1_changedSince_0 : List UInt8 := [27, 184, 0, 149, 42, 180, 0, 99, 27, 182, 0, 152, 42, 180, 0, 99, 27, 182, 0, 216, 172]
abbrev dktX1_changedSince_0 : List UInt8 := dkwX1_changedSince_0 ++ []
theorem dksX1_changedSince_0 : cX1_changedSince.data.toList.drop 0 = dktX1_changedSince_0 := by decide +kernel
theorem dX1_changedSince_0 : decode cX1_changedSince 0 = .ok (.iload_n 1, 1) := dk_27 (dk_at dksX1_changedSince_0 0 rfl rfl)
theorem dX1_changedSince_1 : decode cX1_changedSince 1 = .ok (.invokestatic 149, 3) := dk_184 0 149 (dk_at dksX1_changedSince_0 1 rfl rfl)
theorem dX1_changedSince_4 : decode cX1_changedSince 4 = .ok (.aload_n 0, 1) := dk_42 (dk_at dksX1_changedSince_0 4 rfl rfl)
theorem dX1_changedSince_5 : decode cX1_changedSince 5 = .ok (.getfield 99, 3) := dk_180 0 99 (dk_at dksX1_changedSince_0 5 rfl rfl)
theorem dX1_changedSince_8 : decode cX1_changedSince 8 = .ok (.iload_n 1, 1) := dk_27 (dk_at dksX1_changedSince_0 8 rfl rfl)
theorem dX1_changedSince_9 : decode cX1_changedSince 9 = .ok (.invokevirtual 152, 3) := dk_182 0 152 (dk_at dksX1_changedSince_0 9 rfl rfl)
theorem dX1_changedSince_12 : decode cX1_changedSince 12 = .ok (.aload_n 0, 1) := dk_42 (dk_at dksX1_changedSince_0 12 rfl rfl)
theorem dX1_changedSince_13 : decode cX1_changedSince 13 = .ok (.getfield 99, 3) := dk_180 0 99 (dk_at dksX1_changedSince_0 13 rfl rfl)
theorem dX1_changedSince_16 : decode cX1_changedSince 16 = .ok (.iload_n 1, 1) := dk_27 (dk_at dksX1_changedSince_0 16 rfl rfl)
theorem dX1_changedSince_17 : decode cX1_changedSince 17 = .ok (.invokevirtual 216, 3) := dk_182 0 216 (dk_at dksX1_changedSince_0 17 rfl rfl)
theorem dX1_changedSince_20 : decode cX1_changedSince 20 = .ok (.ireturn, 1) := dk_172 (dk_at dksX1_changedSince_0 20 rfl rfl)
/-! PageGarden.changedSince(I)I -/
abbrev M_X1_changedSince (z0 n0 : Nat) (s' : gS) : gM := (RX1, cX1_changedSince, 2, (some FieldType.int), "changedSince", [], 36, z0, n0, s'.2.1, s'.2.2)
abbrev W_X1_changedSince (E : gE) (z0 n0 : Nat) (r : (Int32 ⊕ String)) (s' : gS) (pc : Nat) (L : List (Nat × gV)) (st : List gV) (s : gS) : Prop := gW E (M_X1_changedSince z0 n0 s') (gQm E (M_X1_changedSince z0 n0 s') (gOi r) s') pc L st s
noncomputable def f_X1_changedSince_0 (κ : gK) (F : Nat)  (l0 : Option Nat) (l1 : Int32) (s : gS) : Option ((Int32 ⊕ String) × gS) :=
  gB3 (f_X3_requireReader κ F l1 s) fun v2 s1 =>
  gB1 (gfR s1 l0 0 0) fun v3 =>
  gB1 (gck s1 v3 7) fun _ =>
  gB3 (f_X3_requireOpen κ F v3 l1 s1) fun v5 s4 =>
  gB1 (gfR s4 l0 0 0) fun v7 =>
  gB1 (gck s4 v7 7) fun _ =>
  gB2 (f_X3_changedSince κ F v7 l1 s4) fun v9 s8 =>
  some ((.inl v9), s8)
set_option maxHeartbeats 4000000 in
theorem w_X1_changedSince_0 {E : gE} {F z0 n0 : Nat} {r : (Int32 ⊕ String)} {s' : gS}   : ∀ (l0 : Option Nat) (l1 : Int32)  (s : gS), f_X1_changedSince_0 (gk E) F  l0 l1 s = some (r, s') → W_X1_changedSince E z0 n0 r s' 0 [(0, vR l0), (1, vI l1)] [] s := by
  intro l0 l1 s hB
  unfold f_X1_changedSince_0 at hB
  refine gw_iload_n 1 rfl dX1_changedSince_0 ?_
  rcases gB3_some hB with ⟨v2, s1, hv2, hB⟩ | ⟨Cv2, hv2, hzv2⟩
  rotate_left
  · subst hzv2
    exact gw_callS (y := yX3_requireReader) (lw_S q2572 q2278 q110 q2279) hdS_X3_requireReader (As := [vI l1]) (rest := []) (m_X3_requireReader _ _ _ _ hv2) (Nat.le_of_ble_eq_true rfl) (Nat.le_of_ble_eq_true rfl) rfl (Nat.le_of_ble_eq_true rfl) dX1_changedSince_1 (gCont_x (gx_out rfl rfl rfl))
  refine gw_callS (y := yX3_requireReader) (lw_S q2572 q2278 q110 q2279) hdS_X3_requireReader (As := [vI l1]) (rest := []) (m_X3_requireReader _ _ _ _ hv2) (Nat.le_of_ble_eq_true rfl) (Nat.le_of_ble_eq_true rfl) rfl (Nat.le_of_ble_eq_true rfl) dX1_changedSince_1 (gCont_v ?_)
  refine gw_aload_n 0 rfl dX1_changedSince_4 ?_
  obtain ⟨v3, hv3, hB⟩ := gB1_some hB
  refine gw_getf (C := RX1) (T := TX1) (N := 4) (k := 0) gcl0 (by decide) in_X1 q1271 (gfR_spec hv3) dX1_changedSince_5 ?_
  refine gw_iload_n 1 rfl dX1_changedSince_8 ?_
  obtain ⟨u0, hu6, hB⟩ := gB1_some hB
  rcases gB3_some hB with ⟨v5, s4, hv5, hB⟩ | ⟨Cv5, hv5, hzv5⟩
  rotate_left
  · subst hzv5
    exact gw_callV (y := yX3_requireOpen) (lw_V q2573 q2297 q2298 q110 q2299) hdV_X3_requireOpen gcl7 hu6 (As := [vI l1]) (rest := []) (m_X3_requireOpen _ _ _ _ _ hv5) (Nat.le_of_ble_eq_true rfl) (Nat.le_of_ble_eq_true rfl) rfl (Nat.le_of_ble_eq_true rfl) dX1_changedSince_9 (gCont_x (gx_out rfl rfl rfl))
  refine gw_callV (y := yX3_requireOpen) (lw_V q2573 q2297 q2298 q110 q2299) hdV_X3_requireOpen gcl7 hu6 (As := [vI l1]) (rest := []) (m_X3_requireOpen _ _ _ _ _ hv5) (Nat.le_of_ble_eq_true rfl) (Nat.le_of_ble_eq_true rfl) rfl (Nat.le_of_ble_eq_true rfl) dX1_changedSince_9 (gCont_v ?_)
  refine gw_aload_n 0 rfl dX1_changedSince_12 ?_
  obtain ⟨v7, hv7, hB⟩ := gB1_some hB
  refine gw_getf (C := RX1) (T := TX1) (N := 4) (k := 0) gcl0 (by decide) in_X1 q1271 (gfR_spec hv7) dX1_changedSince_13 ?_
  refine gw_iload_n 1 rfl dX1_changedSince_16 ?_
  obtain ⟨u0, hu10, hB⟩ := gB1_some hB
  obtain ⟨v9, s8, hv9, hB⟩ := gB2_some hB
  refine gw_callV (y := yX3_changedSince) (lw_V q2651 q2652 q2653 q110 q2654) hdV_X3_changedSince gcl7 hu10 (As := [vI l1]) (rest := []) (m_X3_changedSince _ _ _ _ _ hv9) (Nat.le_of_ble_eq_true rfl) (Nat.le_of_ble_eq_true rfl) rfl (Nat.le_of_ble_eq_true rfl) dX1_changedSince_17 (gCont_i ?_)
  obtain ⟨rfl, rfl⟩ := Prod.mk.inj (Option.some.inj hB)
  exact gw_iret rfl rfl rfl dX1_changedSince_20
noncomputable def f_X1_changedSince (κ : gK) (F : Nat) (a0 : Option Nat) (a1 : Int32) (s : gS) : Option ((Int32 ⊕ String) × gS) := f_X1_changedSince_0 κ F a0 a1 s
theorem m_X1_changedSince {E : gE} {F : Nat} (a0 : Option Nat) (a1 : Int32) (s : gS) (r : (Int32 ⊕ String)) (s' : gS) (h : f_X1_changedSince (gk E) F a0 a1 s = some (r, s')) : gCT E 36 yX1_changedSince (ws_ yX1_changedSince cX1_changedSince 2 (some FieldType.int)) [vR a0, vI a1] s (gOi r) s' := by
  refine gCT_of2 (fun _ h => absurd h (by decide)) (plainFor_of_name (by decide)) (Nat.le_of_ble_eq_true rfl) ?_
  exact gw_sub [0, 1] rfl (w_X1_changedSince_0 _ _ _ h)
def dkwX1_clearCommands_0 : List UInt8 := [42, 180, 0, 198, 60, 42, 3, 181, 0, 198, 27, 172]
abbrev dktX1_clearCommands_0 : List UInt8 := dkwX1_clearCommands_0 ++ []
theorem dksX1_clearCommands_0 : cX1_clearCommands.data.toList.drop 0 = dktX1_clearCommands_0 := by decide +kernel
theorem dX1_clearCommands_0 : decode cX1_clearCommands 0 = .ok (.aload_n 0, 1) := dk_42 (dk_at dksX1_clearCommands_0 0 rfl rfl)
theorem dX1_clearCommands_1 : decode cX1_clearCommands 1 = .ok (.getfield 198, 3) := dk_180 0 198 (dk_at dksX1_clearCommands_0 1 rfl rfl)
theorem dX1_clearCommands_4 : decode cX1_clearCommands 4 = .ok (.istore_n 1, 1) := dk_60 (dk_at dksX1_clearCommands_0 4 rfl rfl)
theorem dX1_clearCommands_5 : decode cX1_clearCommands 5 = .ok (.aload_n 0, 1) := dk_42 (dk_at dksX1_clearCommands_0 5 rfl rfl)
theorem dX1_clearCommands_6 : decode cX1_clearCommands 6 = .ok (.iconst 0, 1) := dk_3 (dk_at dksX1_clearCommands_0 6 rfl rfl)
theorem dX1_clearCommands_7 : decode cX1_clearCommands 7 = .ok (.putfield 198, 3) := dk_181 0 198 (dk_at dksX1_clearCommands_0 7 rfl rfl)
theorem dX1_clearCommands_10 : decode cX1_clearCommands 10 = .ok (.iload_n 1, 1) := dk_27 (dk_at dksX1_clearCommands_0 10 rfl rfl)
theorem dX1_clearCommands_11 : decode cX1_clearCommands 11 = .ok (.ireturn, 1) := dk_172 (dk_at dksX1_clearCommands_0 11 rfl rfl)
/-! PageGarden.clearCommands()I -/
abbrev M_X1_clearCommands (z0 n0 : Nat) (s' : gS) : gM := (RX1, cX1_clearCommands, 2, (some FieldType.int), "clearCommands", [], 1, z0, n0, s'.2.1, s'.2.2)
abbrev W_X1_clearCommands (E : gE) (z0 n0 : Nat) (r : Int32) (s' : gS) (pc : Nat) (L : List (Nat × gV)) (st : List gV) (s : gS) : Prop := gW E (M_X1_clearCommands z0 n0 s') (gQm E (M_X1_clearCommands z0 n0 s') (.inl (some (vI r))) s') pc L st s
noncomputable def f_X1_clearCommands_0 (κ : gK) (F : Nat)  (l0 : Option Nat) (s : gS) : Option (Int32 × gS) :=
  gB1 (gfI s l0 0 3) fun v1 =>
  gB1 (gpf κ s l0 0 3 (.int (0 : Int32))) fun s2 =>
  some (v1, s2)
set_option maxHeartbeats 4000000 in
theorem w_X1_clearCommands_0 {E : gE} {F z0 n0 : Nat} {r : Int32} {s' : gS}   : ∀ (l0 : Option Nat)  (s : gS), f_X1_clearCommands_0 (gk E) F  l0 s = some (r, s') → W_X1_clearCommands E z0 n0 r s' 0 [(0, vR l0)] [] s := by
  intro l0 s hB
  unfold f_X1_clearCommands_0 at hB
  refine gw_aload_n 0 rfl dX1_clearCommands_0 ?_
  obtain ⟨v1, hv1, hB⟩ := gB1_some hB
  refine gw_getf (C := RX1) (T := TX1) (N := 4) (k := 3) gcl0 (by decide) in_X1 q1276 (gfI_spec hv1) dX1_clearCommands_1 ?_
  refine gw_istore_n (L' := [(1, vI v1), (0, vR l0)]) (Nat.le_of_ble_eq_true rfl) rfl dX1_clearCommands_4 ?_
  refine gw_aload_n 1 rfl dX1_clearCommands_5 ?_
  refine gw_iconst (v := (0 : Int32)) (by decide) dX1_clearCommands_6 ?_
  obtain ⟨s2, hs2, hB⟩ := gB1_some hB
  refine gw_putf (C := RX1) (T := TX1) (N := 4) (k := 3) tyX1 tyX1_ok nmX1 gcl0 (by decide) in_X1 q1276 rfl (tyX1_ok 3 (by decide)) (gNF_i _) hs2 dX1_clearCommands_7 ?_
  refine gw_iload_n 0 rfl dX1_clearCommands_10 ?_
  obtain ⟨rfl, rfl⟩ := Prod.mk.inj (Option.some.inj hB)
  exact gw_iret rfl rfl rfl dX1_clearCommands_11
noncomputable def f_X1_clearCommands (κ : gK) (F : Nat) (a0 : Option Nat) (s : gS) : Option (Int32 × gS) := f_X1_clearCommands_0 κ F a0 s
theorem m_X1_clearCommands {E : gE} {F : Nat} (a0 : Option Nat) (s : gS) (r : Int32) (s' : gS) (h : f_X1_clearCommands (gk E) F a0 s = some (r, s')) : gCT E 1 yX1_clearCommands (ws_ yX1_clearCommands cX1_clearCommands 2 (some FieldType.int)) [vR a0] s (.inl (some (vI r))) s' := by
  refine gCT_of2 (fun h => absurd h (by decide)) (plainFor_of_name (by decide)) (Nat.le_of_ble_eq_true rfl) ?_
  exact gw_sub [0] rfl (w_X1_clearCommands_0 _ _ h)
def dkwX1_close_0 : List UInt8 := [42, 180, 0, 99, 182, 0, 123, 77, 42, 44, 44, 27, 182, 0, 50, 182, 0, 126, 172]
abbrev dktX1_close_0 : List UInt8 := dkwX1_close_0 ++ []
theorem dksX1_close_0 : cX1_close.data.toList.drop 0 = dktX1_close_0 := by decide +kernel
theorem dX1_close_0 : decode cX1_close 0 = .ok (.aload_n 0, 1) := dk_42 (dk_at dksX1_close_0 0 rfl rfl)
theorem dX1_close_1 : decode cX1_close 1 = .ok (.getfield 99, 3) := dk_180 0 99 (dk_at dksX1_close_0 1 rfl rfl)
theorem dX1_close_4 : decode cX1_close 4 = .ok (.invokevirtual 123, 3) := dk_182 0 123 (dk_at dksX1_close_0 4 rfl rfl)
theorem dX1_close_7 : decode cX1_close 7 = .ok (.astore_n 2, 1) := dk_77 (dk_at dksX1_close_0 7 rfl rfl)
theorem dX1_close_8 : decode cX1_close 8 = .ok (.aload_n 0, 1) := dk_42 (dk_at dksX1_close_0 8 rfl rfl)
theorem dX1_close_9 : decode cX1_close 9 = .ok (.aload_n 2, 1) := dk_44 (dk_at dksX1_close_0 9 rfl rfl)
theorem dX1_close_10 : decode cX1_close 10 = .ok (.aload_n 2, 1) := dk_44 (dk_at dksX1_close_0 10 rfl rfl)
theorem dX1_close_11 : decode cX1_close 11 = .ok (.iload_n 1, 1) := dk_27 (dk_at dksX1_close_0 11 rfl rfl)
theorem dX1_close_12 : decode cX1_close 12 = .ok (.invokevirtual 50, 3) := dk_182 0 50 (dk_at dksX1_close_0 12 rfl rfl)
theorem dX1_close_15 : decode cX1_close 15 = .ok (.invokevirtual 126, 3) := dk_182 0 126 (dk_at dksX1_close_0 15 rfl rfl)
theorem dX1_close_18 : decode cX1_close 18 = .ok (.ireturn, 1) := dk_172 (dk_at dksX1_close_0 18 rfl rfl)
/-! PageGarden.close(I)I -/
abbrev M_X1_close (z0 n0 : Nat) (s' : gS) : gM := (RX1, cX1_close, 3, (some FieldType.int), "close", [], 12, z0, n0, s'.2.1, s'.2.2)
abbrev W_X1_close (E : gE) (z0 n0 : Nat) (r : (Int32 ⊕ String)) (s' : gS) (pc : Nat) (L : List (Nat × gV)) (st : List gV) (s : gS) : Prop := gW E (M_X1_close z0 n0 s') (gQm E (M_X1_close z0 n0 s') (gOi r) s') pc L st s
noncomputable def f_X1_close_0 (κ : gK) (F : Nat)  (l0 : Option Nat) (l1 : Int32) (s : gS) : Option ((Int32 ⊕ String) × gS) :=
  gB1 (gfR s l0 0 0) fun v1 =>
  gB1 (gck s v1 7) fun _ =>
  gB2 (f_X3_copy κ F v1  s) fun v3 s2 =>
  gB1 (gck s2 v3 7) fun _ =>
  gB3 (f_X3_close κ F v3 l1 s2) fun v6 s5 =>
  gB1 (gck s5 l0 0) fun _ =>
  gB2 (f_X1_become κ F l0 v3 v6 s5) fun v9 s8 =>
  some ((.inl v9), s8)
set_option maxHeartbeats 4000000 in
theorem w_X1_close_0 {E : gE} {F z0 n0 : Nat} {r : (Int32 ⊕ String)} {s' : gS}   : ∀ (l0 : Option Nat) (l1 : Int32)  (s : gS), f_X1_close_0 (gk E) F  l0 l1 s = some (r, s') → W_X1_close E z0 n0 r s' 0 [(0, vR l0), (1, vI l1)] [] s := by
  intro l0 l1 s hB
  unfold f_X1_close_0 at hB
  refine gw_aload_n 0 rfl dX1_close_0 ?_
  obtain ⟨v1, hv1, hB⟩ := gB1_some hB
  refine gw_getf (C := RX1) (T := TX1) (N := 4) (k := 0) gcl0 (by decide) in_X1 q1271 (gfR_spec hv1) dX1_close_1 ?_
  obtain ⟨u0, hu4, hB⟩ := gB1_some hB
  obtain ⟨v3, s2, hv3, hB⟩ := gB2_some hB
  refine gw_callV (y := yX3_copy) (lw_V q1409 q1410 q1411 q110 q1412) hdV_X3_copy gcl7 hu4 (As := []) (rest := []) (m_X3_copy _ _ _ _ hv3) (Nat.le_of_ble_eq_true rfl) (Nat.le_of_ble_eq_true rfl) rfl (Nat.le_of_ble_eq_true rfl) dX1_close_4 (gCont_i ?_)
  refine gw_astore_n (L' := [(2, vR v3), (0, vR l0), (1, vI l1)]) (Nat.le_of_ble_eq_true rfl) rfl dX1_close_7 ?_
  refine gw_aload_n 1 rfl dX1_close_8 ?_
  refine gw_aload_n 0 rfl dX1_close_9 ?_
  refine gw_aload_n 0 rfl dX1_close_10 ?_
  refine gw_iload_n 2 rfl dX1_close_11 ?_
  obtain ⟨u0, hu7, hB⟩ := gB1_some hB
  rcases gB3_some hB with ⟨v6, s5, hv6, hB⟩ | ⟨Cv6, hv6, hzv6⟩
  rotate_left
  · subst hzv6
    exact gw_callV (y := yX3_close) (lw_V q2273 q2274 q2275 q110 q2276) hdV_X3_close gcl7 hu7 (As := [vI l1]) (rest := [vR v3, vR l0]) (m_X3_close _ _ _ _ _ hv6) (Nat.le_of_ble_eq_true rfl) (Nat.le_of_ble_eq_true rfl) rfl (Nat.le_of_ble_eq_true rfl) dX1_close_12 (gCont_x (gx_out rfl rfl rfl))
  refine gw_callV (y := yX3_close) (lw_V q2273 q2274 q2275 q110 q2276) hdV_X3_close gcl7 hu7 (As := [vI l1]) (rest := [vR v3, vR l0]) (m_X3_close _ _ _ _ _ hv6) (Nat.le_of_ble_eq_true rfl) (Nat.le_of_ble_eq_true rfl) rfl (Nat.le_of_ble_eq_true rfl) dX1_close_12 (gCont_i ?_)
  obtain ⟨u0, hu10, hB⟩ := gB1_some hB
  obtain ⟨v9, s8, hv9, hB⟩ := gB2_some hB
  refine gw_callV (y := yX1_become) (lw_V q2332 q2334 qs36 q108 q2335) hdV_X1_become gcl0 hu10 (As := [vR v3, vI v6]) (rest := []) (m_X1_become _ _ _ _ _ _ hv9) (Nat.le_of_ble_eq_true rfl) (Nat.le_of_ble_eq_true rfl) rfl (Nat.le_of_ble_eq_true rfl) dX1_close_15 (gCont_i ?_)
  obtain ⟨rfl, rfl⟩ := Prod.mk.inj (Option.some.inj hB)
  exact gw_iret rfl rfl rfl dX1_close_18
noncomputable def f_X1_close (κ : gK) (F : Nat) (a0 : Option Nat) (a1 : Int32) (s : gS) : Option ((Int32 ⊕ String) × gS) := f_X1_close_0 κ F a0 a1 s
theorem m_X1_close {E : gE} {F : Nat} (a0 : Option Nat) (a1 : Int32) (s : gS) (r : (Int32 ⊕ String)) (s' : gS) (h : f_X1_close (gk E) F a0 a1 s = some (r, s')) : gCT E 12 yX1_close (ws_ yX1_close cX1_close 3 (some FieldType.int)) [vR a0, vI a1] s (gOi r) s' := by
  refine gCT_of2 (fun h => absurd h (by decide)) (plainFor_of_name (by decide)) (Nat.le_of_ble_eq_true rfl) ?_
  exact gw_sub [0, 1] rfl (w_X1_close_0 _ _ _ h)
def dkwX1_commit_0 : List UInt8 := [42, 180, 0, 99, 182, 0, 123, 77, 42, 44, 44, 27, 182, 0, 48, 182, 0, 126, 172]
abbrev dktX1_commit_0 : List UInt8 := dkwX1_commit_0 ++ []
theorem dksX1_commit_0 : cX1_commit.data.toList.drop 0 = dktX1_commit_0 := by decide +kernel
theorem dX1_commit_0 : decode cX1_commit 0 = .ok (.aload_n 0, 1) := dk_42 (dk_at dksX1_commit_0 0 rfl rfl)
theorem dX1_commit_1 : decode cX1_commit 1 = .ok (.getfield 99, 3) := dk_180 0 99 (dk_at dksX1_commit_0 1 rfl rfl)
theorem dX1_commit_4 : decode cX1_commit 4 = .ok (.invokevirtual 123, 3) := dk_182 0 123 (dk_at dksX1_commit_0 4 rfl rfl)
theorem dX1_commit_7 : decode cX1_commit 7 = .ok (.astore_n 2, 1) := dk_77 (dk_at dksX1_commit_0 7 rfl rfl)
theorem dX1_commit_8 : decode cX1_commit 8 = .ok (.aload_n 0, 1) := dk_42 (dk_at dksX1_commit_0 8 rfl rfl)
theorem dX1_commit_9 : decode cX1_commit 9 = .ok (.aload_n 2, 1) := dk_44 (dk_at dksX1_commit_0 9 rfl rfl)
theorem dX1_commit_10 : decode cX1_commit 10 = .ok (.aload_n 2, 1) := dk_44 (dk_at dksX1_commit_0 10 rfl rfl)
theorem dX1_commit_11 : decode cX1_commit 11 = .ok (.iload_n 1, 1) := dk_27 (dk_at dksX1_commit_0 11 rfl rfl)
theorem dX1_commit_12 : decode cX1_commit 12 = .ok (.invokevirtual 48, 3) := dk_182 0 48 (dk_at dksX1_commit_0 12 rfl rfl)
theorem dX1_commit_15 : decode cX1_commit 15 = .ok (.invokevirtual 126, 3) := dk_182 0 126 (dk_at dksX1_commit_0 15 rfl rfl)
theorem dX1_commit_18 : decode cX1_commit 18 = .ok (.ireturn, 1) := dk_172 (dk_at dksX1_commit_0 18 rfl rfl)
/-! PageGarden.commit(I)I -/
abbrev M_X1_commit (z0 n0 : Nat) (s' : gS) : gM := (RX1, cX1_commit, 3, (some FieldType.int), "commit", [], 12, z0, n0, s'.2.1, s'.2.2)
abbrev W_X1_commit (E : gE) (z0 n0 : Nat) (r : (Int32 ⊕ String)) (s' : gS) (pc : Nat) (L : List (Nat × gV)) (st : List gV) (s : gS) : Prop := gW E (M_X1_commit z0 n0 s') (gQm E (M_X1_commit z0 n0 s') (gOi r) s') pc L st s
noncomputable def f_X1_commit_0 (κ : gK) (F : Nat)  (l0 : Option Nat) (l1 : Int32) (s : gS) : Option ((Int32 ⊕ String) × gS) :=
  gB1 (gfR s l0 0 0) fun v1 =>
  gB1 (gck s v1 7) fun _ =>
  gB2 (f_X3_copy κ F v1  s) fun v3 s2 =>
  gB1 (gck s2 v3 7) fun _ =>
  gB3 (f_X3_commit κ F v3 l1 s2) fun v6 s5 =>
  gB1 (gck s5 l0 0) fun _ =>
  gB2 (f_X1_become κ F l0 v3 v6 s5) fun v9 s8 =>
  some ((.inl v9), s8)
set_option maxHeartbeats 4000000 in
theorem w_X1_commit_0 {E : gE} {F z0 n0 : Nat} {r : (Int32 ⊕ String)} {s' : gS}   : ∀ (l0 : Option Nat) (l1 : Int32)  (s : gS), f_X1_commit_0 (gk E) F  l0 l1 s = some (r, s') → W_X1_commit E z0 n0 r s' 0 [(0, vR l0), (1, vI l1)] [] s := by
  intro l0 l1 s hB
  unfold f_X1_commit_0 at hB
  refine gw_aload_n 0 rfl dX1_commit_0 ?_
  obtain ⟨v1, hv1, hB⟩ := gB1_some hB
  refine gw_getf (C := RX1) (T := TX1) (N := 4) (k := 0) gcl0 (by decide) in_X1 q1271 (gfR_spec hv1) dX1_commit_1 ?_
  obtain ⟨u0, hu4, hB⟩ := gB1_some hB
  obtain ⟨v3, s2, hv3, hB⟩ := gB2_some hB
  refine gw_callV (y := yX3_copy) (lw_V q1409 q1410 q1411 q110 q1412) hdV_X3_copy gcl7 hu4 (As := []) (rest := []) (m_X3_copy _ _ _ _ hv3) (Nat.le_of_ble_eq_true rfl) (Nat.le_of_ble_eq_true rfl) rfl (Nat.le_of_ble_eq_true rfl) dX1_commit_4 (gCont_i ?_)
  refine gw_astore_n (L' := [(2, vR v3), (0, vR l0), (1, vI l1)]) (Nat.le_of_ble_eq_true rfl) rfl dX1_commit_7 ?_
  refine gw_aload_n 1 rfl dX1_commit_8 ?_
  refine gw_aload_n 0 rfl dX1_commit_9 ?_
  refine gw_aload_n 0 rfl dX1_commit_10 ?_
  refine gw_iload_n 2 rfl dX1_commit_11 ?_
  obtain ⟨u0, hu7, hB⟩ := gB1_some hB
  rcases gB3_some hB with ⟨v6, s5, hv6, hB⟩ | ⟨Cv6, hv6, hzv6⟩
  rotate_left
  · subst hzv6
    exact gw_callV (y := yX3_commit) (lw_V q2237 q2238 q2239 q110 q2240) hdV_X3_commit gcl7 hu7 (As := [vI l1]) (rest := [vR v3, vR l0]) (m_X3_commit _ _ _ _ _ hv6) (Nat.le_of_ble_eq_true rfl) (Nat.le_of_ble_eq_true rfl) rfl (Nat.le_of_ble_eq_true rfl) dX1_commit_12 (gCont_x (gx_out rfl rfl rfl))
  refine gw_callV (y := yX3_commit) (lw_V q2237 q2238 q2239 q110 q2240) hdV_X3_commit gcl7 hu7 (As := [vI l1]) (rest := [vR v3, vR l0]) (m_X3_commit _ _ _ _ _ hv6) (Nat.le_of_ble_eq_true rfl) (Nat.le_of_ble_eq_true rfl) rfl (Nat.le_of_ble_eq_true rfl) dX1_commit_12 (gCont_i ?_)
  obtain ⟨u0, hu10, hB⟩ := gB1_some hB
  obtain ⟨v9, s8, hv9, hB⟩ := gB2_some hB
  refine gw_callV (y := yX1_become) (lw_V q2332 q2334 qs36 q108 q2335) hdV_X1_become gcl0 hu10 (As := [vR v3, vI v6]) (rest := []) (m_X1_become _ _ _ _ _ _ hv9) (Nat.le_of_ble_eq_true rfl) (Nat.le_of_ble_eq_true rfl) rfl (Nat.le_of_ble_eq_true rfl) dX1_commit_15 (gCont_i ?_)
  obtain ⟨rfl, rfl⟩ := Prod.mk.inj (Option.some.inj hB)
  exact gw_iret rfl rfl rfl dX1_commit_18
noncomputable def f_X1_commit (κ : gK) (F : Nat) (a0 : Option Nat) (a1 : Int32) (s : gS) : Option ((Int32 ⊕ String) × gS) := f_X1_commit_0 κ F a0 a1 s
theorem m_X1_commit {E : gE} {F : Nat} (a0 : Option Nat) (a1 : Int32) (s : gS) (r : (Int32 ⊕ String)) (s' : gS) (h : f_X1_commit (gk E) F a0 a1 s = some (r, s')) : gCT E 12 yX1_commit (ws_ yX1_commit cX1_commit 3 (some FieldType.int)) [vR a0, vI a1] s (gOi r) s' := by
  refine gCT_of2 (fun h => absurd h (by decide)) (plainFor_of_name (by decide)) (Nat.le_of_ble_eq_true rfl) ?_
  exact gw_sub [0, 1] rfl (w_X1_commit_0 _ _ _ h)
def dkwX1_hash_0 : List UInt8 := [20, 0, 191, 30, 105, 28, 133, 97, 173]
abbrev dktX1_hash_0 : List UInt8 := dkwX1_hash_0 ++ []
theorem dksX1_hash_0 : cX1_hash.data.toList.drop 0 = dktX1_hash_0 := by decide +kernel
theorem dX1_hash_0 : decode cX1_hash 0 = .ok (.ldc2_w 191, 3) := dk_20 0 191 (dk_at dksX1_hash_0 0 rfl rfl)
theorem dX1_hash_3 : decode cX1_hash 3 = .ok (.lload_n 0, 1) := dk_30 (dk_at dksX1_hash_0 3 rfl rfl)
theorem dX1_hash_4 : decode cX1_hash 4 = .ok (.lmul, 1) := dk_105 (dk_at dksX1_hash_0 4 rfl rfl)
theorem dX1_hash_5 : decode cX1_hash 5 = .ok (.iload_n 2, 1) := dk_28 (dk_at dksX1_hash_0 5 rfl rfl)
theorem dX1_hash_6 : decode cX1_hash 6 = .ok (.i2l, 1) := dk_133 (dk_at dksX1_hash_0 6 rfl rfl)
theorem dX1_hash_7 : decode cX1_hash 7 = .ok (.ladd, 1) := dk_97 (dk_at dksX1_hash_0 7 rfl rfl)
theorem dX1_hash_8 : decode cX1_hash 8 = .ok (.lreturn, 1) := dk_173 (dk_at dksX1_hash_0 8 rfl rfl)
/-! PageGarden.hash(JI)J -/
abbrev M_X1_hash (z0 n0 : Nat) (s' : gS) : gM := (RX1, cX1_hash, 3, (some FieldType.long), "hash", [], 1, z0, n0, s'.2.1, s'.2.2)
abbrev W_X1_hash (E : gE) (z0 n0 : Nat) (r : Int64) (s' : gS) (pc : Nat) (L : List (Nat × gV)) (st : List gV) (s : gS) : Prop := gW E (M_X1_hash z0 n0 s') (gQm E (M_X1_hash z0 n0 s') (.inl (some (vJ r))) s') pc L st s
noncomputable def f_X1_hash_0 (κ : gK) (F : Nat)  (l0 : Int64) (l2 : Int32) (s : gS) : Option (Int64 × gS) :=
  some ((((31 : Int64) * l0) + (l2.toInt64)), s)
set_option maxHeartbeats 4000000 in
theorem w_X1_hash_0 {E : gE} {F z0 n0 : Nat} {r : Int64} {s' : gS}   : ∀ (l0 : Int64) (l2 : Int32)  (s : gS), f_X1_hash_0 (gk E) F  l0 l2 s = some (r, s') → W_X1_hash E z0 n0 r s' 0 [(0, vJ l0), (2, vI l2)] [] s := by
  intro l0 l2 s hB
  unfold f_X1_hash_0 at hB
  refine gw_ldc2 (31 : Int64) q2390 dX1_hash_0 ?_
  refine gw_lload_n 0 rfl dX1_hash_3 ?_
  refine gw_lmul dX1_hash_4 ?_
  refine gw_iload_n 1 rfl dX1_hash_5 ?_
  refine gw_i2l dX1_hash_6 ?_
  refine gw_ladd dX1_hash_7 ?_
  obtain ⟨rfl, rfl⟩ := Prod.mk.inj (Option.some.inj hB)
  exact gw_lret rfl rfl rfl dX1_hash_8
noncomputable def f_X1_hash (κ : gK) (F : Nat) (a1 : Int64) (a2 : Int32) (s : gS) : Option (Int64 × gS) := f_X1_hash_0 κ F a1 a2 s
theorem m_X1_hash {E : gE} {F : Nat} (a1 : Int64) (a2 : Int32) (s : gS) (r : Int64) (s' : gS) (h : f_X1_hash (gk E) F a1 a2 s = some (r, s')) : gCT E 1 yX1_hash (ws_ yX1_hash cX1_hash 3 (some FieldType.long)) [vJ a1, vI a2] s (.inl (some (vJ r))) s' := by
  refine gCT_of2 (fun h => absurd h (by decide)) (plainFor_of_name (by decide)) (Nat.le_of_ble_eq_true rfl) ?_
  exact gw_sub [0, 1] rfl (w_X1_hash_0 _ _ _ h)
def dkwX1_wholeOf_0 : List UInt8 := [27, 16, 14, 160, 0, 10, 42, 180, 0, 198, 167, 0, 11, 42, 180, 0, 99, 27, 182, 0, 168, 172]
abbrev dktX1_wholeOf_0 : List UInt8 := dkwX1_wholeOf_0 ++ []
theorem dksX1_wholeOf_0 : cX1_wholeOf.data.toList.drop 0 = dktX1_wholeOf_0 := by decide +kernel
theorem dX1_wholeOf_0 : decode cX1_wholeOf 0 = .ok (.iload_n 1, 1) := dk_27 (dk_at dksX1_wholeOf_0 0 rfl rfl)
theorem dX1_wholeOf_1 : decode cX1_wholeOf 1 = .ok (.bipush 14, 2) := dk_16 14 (dk_at dksX1_wholeOf_0 1 rfl rfl)
theorem dX1_wholeOf_3 : decode cX1_wholeOf 3 = .ok (.if_icmp .ne 10, 3) := dk_160 0 10 (dk_at dksX1_wholeOf_0 3 rfl rfl)
theorem dX1_wholeOf_6 : decode cX1_wholeOf 6 = .ok (.aload_n 0, 1) := dk_42 (dk_at dksX1_wholeOf_0 6 rfl rfl)
theorem dX1_wholeOf_7 : decode cX1_wholeOf 7 = .ok (.getfield 198, 3) := dk_180 0 198 (dk_at dksX1_wholeOf_0 7 rfl rfl)
theorem dX1_wholeOf_10 : decode cX1_wholeOf 10 = .ok (.goto 11, 3) := dk_167 0 11 (dk_at dksX1_wholeOf_0 10 rfl rfl)
theorem dX1_wholeOf_13 : decode cX1_wholeOf 13 = .ok (.aload_n 0, 1) := dk_42 (dk_at dksX1_wholeOf_0 13 rfl rfl)
theorem dX1_wholeOf_14 : decode cX1_wholeOf 14 = .ok (.getfield 99, 3) := dk_180 0 99 (dk_at dksX1_wholeOf_0 14 rfl rfl)
theorem dX1_wholeOf_17 : decode cX1_wholeOf 17 = .ok (.iload_n 1, 1) := dk_27 (dk_at dksX1_wholeOf_0 17 rfl rfl)
theorem dX1_wholeOf_18 : decode cX1_wholeOf 18 = .ok (.invokevirtual 168, 3) := dk_182 0 168 (dk_at dksX1_wholeOf_0 18 rfl rfl)
theorem dX1_wholeOf_21 : decode cX1_wholeOf 21 = .ok (.ireturn, 1) := dk_172 (dk_at dksX1_wholeOf_0 21 rfl rfl)
/-! PageGarden.wholeOf(I)I -/
abbrev M_X1_wholeOf (z0 n0 : Nat) (s' : gS) : gM := (RX1, cX1_wholeOf, 2, (some FieldType.int), "wholeOf", [], 9, z0, n0, s'.2.1, s'.2.2)
abbrev W_X1_wholeOf (E : gE) (z0 n0 : Nat) (r : Int32) (s' : gS) (pc : Nat) (L : List (Nat × gV)) (st : List gV) (s : gS) : Prop := gW E (M_X1_wholeOf z0 n0 s') (gQm E (M_X1_wholeOf z0 n0 s') (.inl (some (vI r))) s') pc L st s
noncomputable def f_X1_wholeOf_21 (κ : gK) (F : Nat)  (t0 : Int32) (s : gS) : Option (Int32 × gS) :=
  some (t0, s)
set_option maxHeartbeats 4000000 in
theorem w_X1_wholeOf_21 {E : gE} {F z0 n0 : Nat} {r : Int32} {s' : gS}   : ∀  (t0 : Int32) (s : gS), f_X1_wholeOf_21 (gk E) F  t0 s = some (r, s') → W_X1_wholeOf E z0 n0 r s' 21 [] [vI t0] s := by
  intro t0 s hB
  unfold f_X1_wholeOf_21 at hB
  obtain ⟨rfl, rfl⟩ := Prod.mk.inj (Option.some.inj hB)
  exact gw_iret rfl rfl rfl dX1_wholeOf_21
noncomputable def f_X1_wholeOf_0 (κ : gK) (F : Nat)  (l0 : Option Nat) (l1 : Int32) (s : gS) : Option (Int32 × gS) :=
  if l1 = (14 : Int32) then
    gB1 (gfI s l0 0 3) fun v5 =>
    f_X1_wholeOf_21 κ F  v5 s
  else
    gB1 (gfR s l0 0 0) fun v1 =>
    gB1 (gck s v1 7) fun _ =>
    gB2 (f_X3_value κ F v1 l1 s) fun v3 s2 =>
    f_X1_wholeOf_21 κ F  v3 s2
set_option maxHeartbeats 4000000 in
theorem w_X1_wholeOf_0 {E : gE} {F z0 n0 : Nat} {r : Int32} {s' : gS}   : ∀ (l0 : Option Nat) (l1 : Int32)  (s : gS), f_X1_wholeOf_0 (gk E) F  l0 l1 s = some (r, s') → W_X1_wholeOf E z0 n0 r s' 0 [(0, vR l0), (1, vI l1)] [] s := by
  intro l0 l1 s hB
  unfold f_X1_wholeOf_0 at hB
  refine gw_iload_n 1 rfl dX1_wholeOf_0 ?_
  refine gw_bipush (v := (14 : Int32)) (by decide) dX1_wholeOf_1 ?_
  refine gw_icmp_ne (tgt := 13) dX1_wholeOf_3 (by decide) (fun hcnd => ?_) (fun hcnd => ?_)
  · rw [if_neg hcnd] at hB
    refine gw_aload_n 0 rfl dX1_wholeOf_13 ?_
    obtain ⟨v1, hv1, hB⟩ := gB1_some hB
    refine gw_getf (C := RX1) (T := TX1) (N := 4) (k := 0) gcl0 (by decide) in_X1 q1271 (gfR_spec hv1) dX1_wholeOf_14 ?_
    refine gw_iload_n 1 rfl dX1_wholeOf_17 ?_
    obtain ⟨u0, hu4, hB⟩ := gB1_some hB
    obtain ⟨v3, s2, hv3, hB⟩ := gB2_some hB
    refine gw_callV (y := yX3_value) (lw_V q2395 q2396 q2397 q110 q2398) hdV_X3_value gcl7 hu4 (As := [vI l1]) (rest := []) (m_X3_value _ _ _ _ _ hv3) (Nat.le_of_ble_eq_true rfl) (Nat.le_of_ble_eq_true rfl) rfl (Nat.le_of_ble_eq_true rfl) dX1_wholeOf_18 (gCont_i ?_)
    exact gw_sub [] rfl (w_X1_wholeOf_21  _ _ hB)
  · rw [if_pos hcnd] at hB
    refine gw_aload_n 0 rfl dX1_wholeOf_6 ?_
    obtain ⟨v5, hv5, hB⟩ := gB1_some hB
    refine gw_getf (C := RX1) (T := TX1) (N := 4) (k := 3) gcl0 (by decide) in_X1 q1276 (gfI_spec hv5) dX1_wholeOf_7 ?_
    refine gw_goto (tgt := 21) dX1_wholeOf_10 (by decide) ?_
    exact gw_sub [] rfl (w_X1_wholeOf_21  _ _ hB)
noncomputable def f_X1_wholeOf (κ : gK) (F : Nat) (a0 : Option Nat) (a1 : Int32) (s : gS) : Option (Int32 × gS) := f_X1_wholeOf_0 κ F a0 a1 s
theorem m_X1_wholeOf {E : gE} {F : Nat} (a0 : Option Nat) (a1 : Int32) (s : gS) (r : Int32) (s' : gS) (h : f_X1_wholeOf (gk E) F a0 a1 s = some (r, s')) : gCT E 9 yX1_wholeOf (ws_ yX1_wholeOf cX1_wholeOf 2 (some FieldType.int)) [vR a0, vI a1] s (.inl (some (vI r))) s' := by
  refine gCT_of2 (fun h => absurd h (by decide)) (plainFor_of_name (by decide)) (Nat.le_of_ble_eq_true rfl) ?_
  exact gw_sub [0, 1] rfl (w_X1_wholeOf_0 _ _ _ h)
def dkwX1_hashDraft_1 : List UInt8 := [180, 0, 99, 21, 5, 182, 0, 146, 184, 0, 250, 66, 132, 5, 1, 167, 255, 222, 33, 173]
abbrev dktX1_hashDraft_1 : List UInt8 := dkwX1_hashDraft_1 ++ []
def dkwX1_hashDraft_0 : List UInt8 := [31, 66, 3, 54, 5, 21, 5, 16, 100, 162, 0, 33, 42, 180, 0, 99, 180, 0, 246, 198, 0, 23, 33, 42]
abbrev dktX1_hashDraft_0 : List UInt8 := dkwX1_hashDraft_0 ++ dktX1_hashDraft_1
theorem dksX1_hashDraft_0 : cX1_hashDraft.data.toList.drop 0 = dktX1_hashDraft_0 := by decide +kernel
theorem dksX1_hashDraft_1 : cX1_hashDraft.data.toList.drop 24 = dktX1_hashDraft_1 := dk_seg dksX1_hashDraft_0 24 rfl rfl
theorem dX1_hashDraft_0 : decode cX1_hashDraft 0 = .ok (.lload_n 1, 1) := dk_31 (dk_at dksX1_hashDraft_0 0 rfl rfl)
theorem dX1_hashDraft_1 : decode cX1_hashDraft 1 = .ok (.lstore_n 3, 1) := dk_66 (dk_at dksX1_hashDraft_0 1 rfl rfl)
theorem dX1_hashDraft_2 : decode cX1_hashDraft 2 = .ok (.iconst 0, 1) := dk_3 (dk_at dksX1_hashDraft_0 2 rfl rfl)
theorem dX1_hashDraft_3 : decode cX1_hashDraft 3 = .ok (.istore 5, 2) := dk_54 5 (dk_at dksX1_hashDraft_0 3 rfl rfl)
theorem dX1_hashDraft_5 : decode cX1_hashDraft 5 = .ok (.iload 5, 2) := dk_21 5 (dk_at dksX1_hashDraft_0 5 rfl rfl)
theorem dX1_hashDraft_7 : decode cX1_hashDraft 7 = .ok (.bipush 100, 2) := dk_16 100 (dk_at dksX1_hashDraft_0 7 rfl rfl)
theorem dX1_hashDraft_9 : decode cX1_hashDraft 9 = .ok (.if_icmp .ge 33, 3) := dk_162 0 33 (dk_at dksX1_hashDraft_0 9 rfl rfl)
theorem dX1_hashDraft_12 : decode cX1_hashDraft 12 = .ok (.aload_n 0, 1) := dk_42 (dk_at dksX1_hashDraft_0 12 rfl rfl)
theorem dX1_hashDraft_13 : decode cX1_hashDraft 13 = .ok (.getfield 99, 3) := dk_180 0 99 (dk_at dksX1_hashDraft_0 13 rfl rfl)
theorem dX1_hashDraft_16 : decode cX1_hashDraft 16 = .ok (.getfield 246, 3) := dk_180 0 246 (dk_at dksX1_hashDraft_0 16 rfl rfl)
theorem dX1_hashDraft_19 : decode cX1_hashDraft 19 = .ok (.ifnull 23, 3) := dk_198 0 23 (dk_at dksX1_hashDraft_0 19 rfl rfl)
theorem dX1_hashDraft_22 : decode cX1_hashDraft 22 = .ok (.lload_n 3, 1) := dk_33 (dk_at dksX1_hashDraft_0 22 rfl rfl)
theorem dX1_hashDraft_23 : decode cX1_hashDraft 23 = .ok (.aload_n 0, 1) := dk_42 (dk_at dksX1_hashDraft_0 23 rfl rfl)
theorem dX1_hashDraft_24 : decode cX1_hashDraft 24 = .ok (.getfield 99, 3) := dk_180 0 99 (dk_at dksX1_hashDraft_1 0 rfl rfl)
theorem dX1_hashDraft_27 : decode cX1_hashDraft 27 = .ok (.iload 5, 2) := dk_21 5 (dk_at dksX1_hashDraft_1 3 rfl rfl)
theorem dX1_hashDraft_29 : decode cX1_hashDraft 29 = .ok (.invokevirtual 146, 3) := dk_182 0 146 (dk_at dksX1_hashDraft_1 5 rfl rfl)
theorem dX1_hashDraft_32 : decode cX1_hashDraft 32 = .ok (.invokestatic 250, 3) := dk_184 0 250 (dk_at dksX1_hashDraft_1 8 rfl rfl)
theorem dX1_hashDraft_35 : decode cX1_hashDraft 35 = .ok (.lstore_n 3, 1) := dk_66 (dk_at dksX1_hashDraft_1 11 rfl rfl)
theorem dX1_hashDraft_36 : decode cX1_hashDraft 36 = .ok (.iinc 5 1, 3) := dk_132 5 1 (dk_at dksX1_hashDraft_1 12 rfl rfl)
theorem dX1_hashDraft_39 : decode cX1_hashDraft 39 = .ok (.goto (-34), 3) := dk_167 255 222 (dk_at dksX1_hashDraft_1 15 rfl rfl)
theorem dX1_hashDraft_42 : decode cX1_hashDraft 42 = .ok (.lload_n 3, 1) := dk_33 (dk_at dksX1_hashDraft_1 18 rfl rfl)
theorem dX1_hashDraft_43 : decode cX1_hashDraft 43 = .ok (.lreturn, 1) := dk_173 (dk_at dksX1_hashDraft_1 19 rfl rfl)
/-! PageGarden.hashDraft(J)J -/
abbrev M_X1_hashDraft (z0 n0 : Nat) (s' : gS) : gM := (RX1, cX1_hashDraft, 6, (some FieldType.long), "hashDraft", [], 12, z0, n0, s'.2.1, s'.2.2)
abbrev W_X1_hashDraft (E : gE) (z0 n0 : Nat) (r : (Int64 ⊕ String)) (s' : gS) (pc : Nat) (L : List (Nat × gV)) (st : List gV) (s : gS) : Prop := gW E (M_X1_hashDraft z0 n0 s') (gQm E (M_X1_hashDraft z0 n0 s') (gOj r) s') pc L st s
noncomputable def f_X1_hashDraft_42 (κ : gK) (F : Nat)  (l3 : Int64) (s : gS) : Option ((Int64 ⊕ String) × gS) :=
  some ((.inl l3), s)
set_option maxHeartbeats 4000000 in
theorem w_X1_hashDraft_42 {E : gE} {F z0 n0 : Nat} {r : (Int64 ⊕ String)} {s' : gS}   : ∀ (l3 : Int64)  (s : gS), f_X1_hashDraft_42 (gk E) F  l3 s = some (r, s') → W_X1_hashDraft E z0 n0 r s' 42 [(3, vJ l3)] [] s := by
  intro l3 s hB
  unfold f_X1_hashDraft_42 at hB
  refine gw_lload_n 0 rfl dX1_hashDraft_42 ?_
  obtain ⟨rfl, rfl⟩ := Prod.mk.inj (Option.some.inj hB)
  exact gw_lret rfl rfl rfl dX1_hashDraft_43
noncomputable def f_X1_hashDraft_5b (κ : gK) (F : Nat) (k5 : Option Nat → Int64 → Int32 → gS → Option ((Int64 ⊕ String) × gS)) (l0 : Option Nat) (l3 : Int64) (l5 : Int32) (s : gS) : Option ((Int64 ⊕ String) × gS) :=
  if (100 : Int32) ≤ l5 then
    f_X1_hashDraft_42 κ F  l3 s
  else
    gB1 (gfR s l0 0 0) fun v1 =>
    gB1 (gfR s v1 7 6) fun v2 =>
    if v2 = none then
      f_X1_hashDraft_42 κ F  l3 s
    else
      gB1 (gfR s l0 0 0) fun v3 =>
      gB1 (gck s v3 7) fun _ =>
      gB3 (f_X3_drafted κ F v3 l5 s) fun v5 s4 =>
      gB2 (f_X1_hash κ F l3 v5 s4) fun v8 s7 =>
      k5 l0 v8 (l5 + (1 : Int32)) s7
noncomputable def f_X1_hashDraft_5 (κ : gK) (F : Nat)  : Nat → Option Nat → Int64 → Int32 → gS → Option ((Int64 ⊕ String) × gS)
  | 0 => fun _ _ _ _ => none
  | n + 1 => f_X1_hashDraft_5b κ F  (f_X1_hashDraft_5 κ F  n)
set_option maxHeartbeats 4000000 in
theorem w_X1_hashDraft_5b {E : gE} {F z0 n0 : Nat} {r : (Int64 ⊕ String)} {s' : gS} {k5 : Option Nat → Int64 → Int32 → gS → Option ((Int64 ⊕ String) × gS)} (hk5 : ∀ (l0 : Option Nat) (l3 : Int64) (l5 : Int32) (s : gS), k5 l0 l3 l5 s = some (r, s') → W_X1_hashDraft E z0 n0 r s' 5 [(0, vR l0), (3, vJ l3), (5, vI l5)] [] s) : ∀ (l0 : Option Nat) (l3 : Int64) (l5 : Int32)  (s : gS), f_X1_hashDraft_5b (gk E) F k5 l0 l3 l5 s = some (r, s') → W_X1_hashDraft E z0 n0 r s' 5 [(0, vR l0), (3, vJ l3), (5, vI l5)] [] s := by
  intro l0 l3 l5 s hB
  unfold f_X1_hashDraft_5b at hB
  refine gw_iload 2 rfl dX1_hashDraft_5 ?_
  refine gw_bipush (v := (100 : Int32)) (by decide) dX1_hashDraft_7 ?_
  refine gw_icmp_ge (tgt := 42) dX1_hashDraft_9 (by decide) (fun hcnd => ?_) (fun hcnd => ?_)
  · rw [if_pos hcnd] at hB
    exact gw_sub [1] rfl (w_X1_hashDraft_42  _ _ hB)
  · rw [if_neg hcnd] at hB
    refine gw_aload_n 0 rfl dX1_hashDraft_12 ?_
    obtain ⟨v1, hv1, hB⟩ := gB1_some hB
    refine gw_getf (C := RX1) (T := TX1) (N := 4) (k := 0) gcl0 (by decide) in_X1 q1271 (gfR_spec hv1) dX1_hashDraft_13 ?_
    obtain ⟨v2, hv2, hB⟩ := gB1_some hB
    refine gw_getfN (C := RX3) (T := TX3) (N := 9) (k := 6) gcl7 (by decide) in_X3 q290 (gfR_spec hv2) dX1_hashDraft_16 ?_
    refine gw_ifnull (tgt := 42) dX1_hashDraft_19 (by decide) (fun hcnd => ?_) (fun hcnd => ?_)
    · rw [if_pos hcnd] at hB
      exact gw_sub [1] rfl (w_X1_hashDraft_42  _ _ hB)
    · rw [if_neg hcnd] at hB
      refine gw_lload_n 1 rfl dX1_hashDraft_22 ?_
      refine gw_aload_n 0 rfl dX1_hashDraft_23 ?_
      obtain ⟨v3, hv3, hB⟩ := gB1_some hB
      refine gw_getf (C := RX1) (T := TX1) (N := 4) (k := 0) gcl0 (by decide) in_X1 q1271 (gfR_spec hv3) dX1_hashDraft_24 ?_
      refine gw_iload 2 rfl dX1_hashDraft_27 ?_
      obtain ⟨u0, hu6, hB⟩ := gB1_some hB
      rcases gB3_some hB with ⟨v5, s4, hv5, hB⟩ | ⟨Cv5, hv5, hzv5⟩
      rotate_left
      · subst hzv5
        exact gw_callV (y := yX3_drafted) (lw_V q2493 q2102 q2103 q110 q2104) hdV_X3_drafted gcl7 hu6 (As := [vI l5]) (rest := [vJ l3]) (m_X3_drafted _ _ _ _ _ hv5) (Nat.le_of_ble_eq_true rfl) (Nat.le_of_ble_eq_true rfl) rfl (Nat.le_of_ble_eq_true rfl) dX1_hashDraft_29 (gCont_x (gx_out rfl rfl rfl))
      refine gw_callV (y := yX3_drafted) (lw_V q2493 q2102 q2103 q110 q2104) hdV_X3_drafted gcl7 hu6 (As := [vI l5]) (rest := [vJ l3]) (m_X3_drafted _ _ _ _ _ hv5) (Nat.le_of_ble_eq_true rfl) (Nat.le_of_ble_eq_true rfl) rfl (Nat.le_of_ble_eq_true rfl) dX1_hashDraft_29 (gCont_i ?_)
      obtain ⟨v8, s7, hv8, hB⟩ := gB2_some hB
      refine gw_callS (y := yX1_hash) (lw_S q2387 q2388 q108 q2389) hdS_X1_hash (As := [vJ l3, vI v5]) (rest := []) (m_X1_hash _ _ _ _ _ hv8) (Nat.le_of_ble_eq_true rfl) (Nat.le_of_ble_eq_true rfl) rfl (Nat.le_of_ble_eq_true rfl) dX1_hashDraft_32 (gCont_i ?_)
      refine gw_lstore_n (L' := [(3, vJ v8), (0, vR l0), (5, vI l5)]) (Nat.le_of_ble_eq_true rfl) rfl dX1_hashDraft_35 ?_
      refine gw_iinc (w := (1 : Int32)) (L' := [(5, vI (l5 + (1 : Int32))), (3, vJ v8), (0, vR l0)]) 2 rfl (by decide) (Nat.le_of_ble_eq_true rfl) rfl dX1_hashDraft_36 ?_
      refine gw_goto (tgt := 5) dX1_hashDraft_39 (by decide) ?_
      exact gw_sub [2, 1, 0] rfl (hk5 _ _ _ _ hB)
theorem w_X1_hashDraft_5 {E : gE} {F z0 n0 : Nat} {r : (Int64 ⊕ String)} {s' : gS}   : ∀ (n : Nat) (l0 : Option Nat) (l3 : Int64) (l5 : Int32)  (s : gS), f_X1_hashDraft_5 (gk E) F  n l0 l3 l5 s = some (r, s') → W_X1_hashDraft E z0 n0 r s' 5 [(0, vR l0), (3, vJ l3), (5, vI l5)] [] s := by
  intro n
  induction n with
  | zero => intro l0 l3 l5 s hB; cases hB
  | succ n ih => intro l0 l3 l5 s hB; exact w_X1_hashDraft_5b ih l0 l3 l5 s hB
noncomputable def f_X1_hashDraft_0 (κ : gK) (F : Nat)  (l0 : Option Nat) (l1 : Int64) (s : gS) : Option ((Int64 ⊕ String) × gS) :=
  f_X1_hashDraft_5 κ F  F l0 l1 (0 : Int32) s
set_option maxHeartbeats 4000000 in
theorem w_X1_hashDraft_0 {E : gE} {F z0 n0 : Nat} {r : (Int64 ⊕ String)} {s' : gS}   : ∀ (l0 : Option Nat) (l1 : Int64)  (s : gS), f_X1_hashDraft_0 (gk E) F  l0 l1 s = some (r, s') → W_X1_hashDraft E z0 n0 r s' 0 [(0, vR l0), (1, vJ l1)] [] s := by
  intro l0 l1 s hB
  unfold f_X1_hashDraft_0 at hB
  refine gw_lload_n 1 rfl dX1_hashDraft_0 ?_
  refine gw_lstore_n (L' := [(3, vJ l1), (0, vR l0), (1, vJ l1)]) (Nat.le_of_ble_eq_true rfl) rfl dX1_hashDraft_1 ?_
  refine gw_iconst (v := (0 : Int32)) (by decide) dX1_hashDraft_2 ?_
  refine gw_istore (L' := [(5, vI (0 : Int32)), (3, vJ l1), (0, vR l0), (1, vJ l1)]) (Nat.le_of_ble_eq_true rfl) rfl dX1_hashDraft_3 ?_
  exact gw_sub [2, 1, 0] rfl (w_X1_hashDraft_5  F _ _ _ _ hB)
noncomputable def f_X1_hashDraft (κ : gK) (F : Nat) (a0 : Option Nat) (a1 : Int64) (s : gS) : Option ((Int64 ⊕ String) × gS) := f_X1_hashDraft_0 κ F a0 a1 s
theorem m_X1_hashDraft {E : gE} {F : Nat} (a0 : Option Nat) (a1 : Int64) (s : gS) (r : (Int64 ⊕ String)) (s' : gS) (h : f_X1_hashDraft (gk E) F a0 a1 s = some (r, s')) : gCT E 12 yX1_hashDraft (ws_ yX1_hashDraft cX1_hashDraft 6 (some FieldType.long)) [vR a0, vJ a1] s (gOj r) s' := by
  refine gCT_of2 (fun h => absurd h (by decide)) (plainFor_of_name (by decide)) (Nat.le_of_ble_eq_true rfl) ?_
  exact gw_sub [0, 1] rfl (w_X1_hashDraft_0 _ _ _ h)
def dkwX1_digest_8 : List UInt8 := [182, 0, 204, 184, 0, 250, 182, 1, 0, 173]
abbrev dktX1_digest_8 : List UInt8 := dkwX1_digest_8 ++ []
def dkwX1_digest_7 : List UInt8 := [21, 4, 7, 112, 182, 0, 180, 184, 0, 250, 64, 132, 4, 1, 167, 255, 225, 42, 31, 42, 180, 0, 99]
abbrev dktX1_digest_7 : List UInt8 := dkwX1_digest_7 ++ dktX1_digest_8
def dkwX1_digest_6 : List UInt8 := [182, 0, 168, 62, 3, 54, 4, 21, 4, 29, 7, 104, 162, 0, 29, 31, 42, 180, 0, 99, 21, 4, 7, 108]
abbrev dktX1_digest_6 : List UInt8 := dkwX1_digest_6 ++ dktX1_digest_7
def dkwX1_digest_5 : List UInt8 := [29, 16, 6, 112, 182, 0, 195, 184, 0, 250, 64, 132, 3, 1, 167, 255, 226, 42, 180, 0, 99, 8]
abbrev dktX1_digest_5 : List UInt8 := dkwX1_digest_5 ++ dktX1_digest_6
def dkwX1_digest_4 : List UInt8 := [132, 3, 1, 167, 255, 229, 3, 62, 29, 17, 0, 192, 162, 0, 29, 31, 42, 180, 0, 99, 29, 16, 6, 108]
abbrev dktX1_digest_4 : List UInt8 := dkwX1_digest_4 ++ dktX1_digest_5
def dkwX1_digest_3 : List UInt8 := [29, 16, 12, 162, 0, 27, 31, 42, 180, 0, 99, 29, 6, 108, 29, 6, 112, 182, 0, 188, 184, 0, 250, 64]
abbrev dktX1_digest_3 : List UInt8 := dkwX1_digest_3 ++ dktX1_digest_4
def dkwX1_digest_2 : List UInt8 := [180, 0, 99, 29, 7, 108, 29, 7, 112, 182, 0, 185, 184, 0, 250, 64, 132, 3, 1, 167, 255, 229, 3, 62]
abbrev dktX1_digest_2 : List UInt8 := dkwX1_digest_2 ++ dktX1_digest_3
def dkwX1_digest_1 : List UInt8 := [29, 182, 0, 201, 184, 0, 250, 64, 132, 3, 1, 167, 255, 237, 3, 62, 29, 16, 8, 162, 0, 27, 31, 42]
abbrev dktX1_digest_1 : List UInt8 := dkwX1_digest_1 ++ dktX1_digest_2
def dkwX1_digest_0 : List UInt8 := [20, 0, 254, 42, 180, 0, 106, 182, 0, 114, 184, 0, 250, 64, 3, 62, 29, 16, 15, 162, 0, 19, 31, 42]
abbrev dktX1_digest_0 : List UInt8 := dkwX1_digest_0 ++ dktX1_digest_1
theorem dksX1_digest_0 : cX1_digest.data.toList.drop 0 = dktX1_digest_0 := by decide +kernel
theorem dksX1_digest_1 : cX1_digest.data.toList.drop 24 = dktX1_digest_1 := dk_seg dksX1_digest_0 24 rfl rfl
theorem dksX1_digest_2 : cX1_digest.data.toList.drop 48 = dktX1_digest_2 := dk_seg dksX1_digest_1 24 rfl rfl
theorem dksX1_digest_3 : cX1_digest.data.toList.drop 72 = dktX1_digest_3 := dk_seg dksX1_digest_2 24 rfl rfl
theorem dksX1_digest_4 : cX1_digest.data.toList.drop 96 = dktX1_digest_4 := dk_seg dksX1_digest_3 24 rfl rfl
theorem dksX1_digest_5 : cX1_digest.data.toList.drop 120 = dktX1_digest_5 := dk_seg dksX1_digest_4 24 rfl rfl
theorem dksX1_digest_6 : cX1_digest.data.toList.drop 142 = dktX1_digest_6 := dk_seg dksX1_digest_5 22 rfl rfl
theorem dksX1_digest_7 : cX1_digest.data.toList.drop 166 = dktX1_digest_7 := dk_seg dksX1_digest_6 24 rfl rfl
theorem dksX1_digest_8 : cX1_digest.data.toList.drop 189 = dktX1_digest_8 := dk_seg dksX1_digest_7 23 rfl rfl
theorem dX1_digest_0 : decode cX1_digest 0 = .ok (.ldc2_w 254, 3) := dk_20 0 254 (dk_at dksX1_digest_0 0 rfl rfl)
theorem dX1_digest_3 : decode cX1_digest 3 = .ok (.aload_n 0, 1) := dk_42 (dk_at dksX1_digest_0 3 rfl rfl)
theorem dX1_digest_4 : decode cX1_digest 4 = .ok (.getfield 106, 3) := dk_180 0 106 (dk_at dksX1_digest_0 4 rfl rfl)
theorem dX1_digest_7 : decode cX1_digest 7 = .ok (.invokevirtual 114, 3) := dk_182 0 114 (dk_at dksX1_digest_0 7 rfl rfl)
theorem dX1_digest_10 : decode cX1_digest 10 = .ok (.invokestatic 250, 3) := dk_184 0 250 (dk_at dksX1_digest_0 10 rfl rfl)
theorem dX1_digest_13 : decode cX1_digest 13 = .ok (.lstore_n 1, 1) := dk_64 (dk_at dksX1_digest_0 13 rfl rfl)
theorem dX1_digest_14 : decode cX1_digest 14 = .ok (.iconst 0, 1) := dk_3 (dk_at dksX1_digest_0 14 rfl rfl)
theorem dX1_digest_15 : decode cX1_digest 15 = .ok (.istore_n 3, 1) := dk_62 (dk_at dksX1_digest_0 15 rfl rfl)
theorem dX1_digest_16 : decode cX1_digest 16 = .ok (.iload_n 3, 1) := dk_29 (dk_at dksX1_digest_0 16 rfl rfl)
theorem dX1_digest_17 : decode cX1_digest 17 = .ok (.bipush 15, 2) := dk_16 15 (dk_at dksX1_digest_0 17 rfl rfl)
theorem dX1_digest_19 : decode cX1_digest 19 = .ok (.if_icmp .ge 19, 3) := dk_162 0 19 (dk_at dksX1_digest_0 19 rfl rfl)
theorem dX1_digest_22 : decode cX1_digest 22 = .ok (.lload_n 1, 1) := dk_31 (dk_at dksX1_digest_0 22 rfl rfl)
theorem dX1_digest_23 : decode cX1_digest 23 = .ok (.aload_n 0, 1) := dk_42 (dk_at dksX1_digest_0 23 rfl rfl)
theorem dX1_digest_24 : decode cX1_digest 24 = .ok (.iload_n 3, 1) := dk_29 (dk_at dksX1_digest_1 0 rfl rfl)
theorem dX1_digest_25 : decode cX1_digest 25 = .ok (.invokevirtual 201, 3) := dk_182 0 201 (dk_at dksX1_digest_1 1 rfl rfl)
theorem dX1_digest_28 : decode cX1_digest 28 = .ok (.invokestatic 250, 3) := dk_184 0 250 (dk_at dksX1_digest_1 4 rfl rfl)
theorem dX1_digest_31 : decode cX1_digest 31 = .ok (.lstore_n 1, 1) := dk_64 (dk_at dksX1_digest_1 7 rfl rfl)
theorem dX1_digest_32 : decode cX1_digest 32 = .ok (.iinc 3 1, 3) := dk_132 3 1 (dk_at dksX1_digest_1 8 rfl rfl)
theorem dX1_digest_35 : decode cX1_digest 35 = .ok (.goto (-19), 3) := dk_167 255 237 (dk_at dksX1_digest_1 11 rfl rfl)
theorem dX1_digest_38 : decode cX1_digest 38 = .ok (.iconst 0, 1) := dk_3 (dk_at dksX1_digest_1 14 rfl rfl)
theorem dX1_digest_39 : decode cX1_digest 39 = .ok (.istore_n 3, 1) := dk_62 (dk_at dksX1_digest_1 15 rfl rfl)
theorem dX1_digest_40 : decode cX1_digest 40 = .ok (.iload_n 3, 1) := dk_29 (dk_at dksX1_digest_1 16 rfl rfl)
theorem dX1_digest_41 : decode cX1_digest 41 = .ok (.bipush 8, 2) := dk_16 8 (dk_at dksX1_digest_1 17 rfl rfl)
theorem dX1_digest_43 : decode cX1_digest 43 = .ok (.if_icmp .ge 27, 3) := dk_162 0 27 (dk_at dksX1_digest_1 19 rfl rfl)
theorem dX1_digest_46 : decode cX1_digest 46 = .ok (.lload_n 1, 1) := dk_31 (dk_at dksX1_digest_1 22 rfl rfl)
theorem dX1_digest_47 : decode cX1_digest 47 = .ok (.aload_n 0, 1) := dk_42 (dk_at dksX1_digest_1 23 rfl rfl)
theorem dX1_digest_48 : decode cX1_digest 48 = .ok (.getfield 99, 3) := dk_180 0 99 (dk_at dksX1_digest_2 0 rfl rfl)
theorem dX1_digest_51 : decode cX1_digest 51 = .ok (.iload_n 3, 1) := dk_29 (dk_at dksX1_digest_2 3 rfl rfl)
theorem dX1_digest_52 : decode cX1_digest 52 = .ok (.iconst 4, 1) := dk_7 (dk_at dksX1_digest_2 4 rfl rfl)
theorem dX1_digest_53 : decode cX1_digest 53 = .ok (.idiv, 1) := dk_108 (dk_at dksX1_digest_2 5 rfl rfl)
theorem dX1_digest_54 : decode cX1_digest 54 = .ok (.iload_n 3, 1) := dk_29 (dk_at dksX1_digest_2 6 rfl rfl)
theorem dX1_digest_55 : decode cX1_digest 55 = .ok (.iconst 4, 1) := dk_7 (dk_at dksX1_digest_2 7 rfl rfl)
theorem dX1_digest_56 : decode cX1_digest 56 = .ok (.irem, 1) := dk_112 (dk_at dksX1_digest_2 8 rfl rfl)
theorem dX1_digest_57 : decode cX1_digest 57 = .ok (.invokevirtual 185, 3) := dk_182 0 185 (dk_at dksX1_digest_2 9 rfl rfl)
theorem dX1_digest_60 : decode cX1_digest 60 = .ok (.invokestatic 250, 3) := dk_184 0 250 (dk_at dksX1_digest_2 12 rfl rfl)
theorem dX1_digest_63 : decode cX1_digest 63 = .ok (.lstore_n 1, 1) := dk_64 (dk_at dksX1_digest_2 15 rfl rfl)
theorem dX1_digest_64 : decode cX1_digest 64 = .ok (.iinc 3 1, 3) := dk_132 3 1 (dk_at dksX1_digest_2 16 rfl rfl)
theorem dX1_digest_67 : decode cX1_digest 67 = .ok (.goto (-27), 3) := dk_167 255 229 (dk_at dksX1_digest_2 19 rfl rfl)
theorem dX1_digest_70 : decode cX1_digest 70 = .ok (.iconst 0, 1) := dk_3 (dk_at dksX1_digest_2 22 rfl rfl)
theorem dX1_digest_71 : decode cX1_digest 71 = .ok (.istore_n 3, 1) := dk_62 (dk_at dksX1_digest_2 23 rfl rfl)
theorem dX1_digest_72 : decode cX1_digest 72 = .ok (.iload_n 3, 1) := dk_29 (dk_at dksX1_digest_3 0 rfl rfl)
theorem dX1_digest_73 : decode cX1_digest 73 = .ok (.bipush 12, 2) := dk_16 12 (dk_at dksX1_digest_3 1 rfl rfl)
theorem dX1_digest_75 : decode cX1_digest 75 = .ok (.if_icmp .ge 27, 3) := dk_162 0 27 (dk_at dksX1_digest_3 3 rfl rfl)
theorem dX1_digest_78 : decode cX1_digest 78 = .ok (.lload_n 1, 1) := dk_31 (dk_at dksX1_digest_3 6 rfl rfl)
theorem dX1_digest_79 : decode cX1_digest 79 = .ok (.aload_n 0, 1) := dk_42 (dk_at dksX1_digest_3 7 rfl rfl)
theorem dX1_digest_80 : decode cX1_digest 80 = .ok (.getfield 99, 3) := dk_180 0 99 (dk_at dksX1_digest_3 8 rfl rfl)
theorem dX1_digest_83 : decode cX1_digest 83 = .ok (.iload_n 3, 1) := dk_29 (dk_at dksX1_digest_3 11 rfl rfl)
theorem dX1_digest_84 : decode cX1_digest 84 = .ok (.iconst 3, 1) := dk_6 (dk_at dksX1_digest_3 12 rfl rfl)
theorem dX1_digest_85 : decode cX1_digest 85 = .ok (.idiv, 1) := dk_108 (dk_at dksX1_digest_3 13 rfl rfl)
theorem dX1_digest_86 : decode cX1_digest 86 = .ok (.iload_n 3, 1) := dk_29 (dk_at dksX1_digest_3 14 rfl rfl)
theorem dX1_digest_87 : decode cX1_digest 87 = .ok (.iconst 3, 1) := dk_6 (dk_at dksX1_digest_3 15 rfl rfl)
theorem dX1_digest_88 : decode cX1_digest 88 = .ok (.irem, 1) := dk_112 (dk_at dksX1_digest_3 16 rfl rfl)
theorem dX1_digest_89 : decode cX1_digest 89 = .ok (.invokevirtual 188, 3) := dk_182 0 188 (dk_at dksX1_digest_3 17 rfl rfl)
theorem dX1_digest_92 : decode cX1_digest 92 = .ok (.invokestatic 250, 3) := dk_184 0 250 (dk_at dksX1_digest_3 20 rfl rfl)
theorem dX1_digest_95 : decode cX1_digest 95 = .ok (.lstore_n 1, 1) := dk_64 (dk_at dksX1_digest_3 23 rfl rfl)
theorem dX1_digest_96 : decode cX1_digest 96 = .ok (.iinc 3 1, 3) := dk_132 3 1 (dk_at dksX1_digest_4 0 rfl rfl)
theorem dX1_digest_99 : decode cX1_digest 99 = .ok (.goto (-27), 3) := dk_167 255 229 (dk_at dksX1_digest_4 3 rfl rfl)
theorem dX1_digest_102 : decode cX1_digest 102 = .ok (.iconst 0, 1) := dk_3 (dk_at dksX1_digest_4 6 rfl rfl)
theorem dX1_digest_103 : decode cX1_digest 103 = .ok (.istore_n 3, 1) := dk_62 (dk_at dksX1_digest_4 7 rfl rfl)
theorem dX1_digest_104 : decode cX1_digest 104 = .ok (.iload_n 3, 1) := dk_29 (dk_at dksX1_digest_4 8 rfl rfl)
theorem dX1_digest_105 : decode cX1_digest 105 = .ok (.sipush 192, 3) := dk_17 0 192 (dk_at dksX1_digest_4 9 rfl rfl)
theorem dX1_digest_108 : decode cX1_digest 108 = .ok (.if_icmp .ge 29, 3) := dk_162 0 29 (dk_at dksX1_digest_4 12 rfl rfl)
theorem dX1_digest_111 : decode cX1_digest 111 = .ok (.lload_n 1, 1) := dk_31 (dk_at dksX1_digest_4 15 rfl rfl)
theorem dX1_digest_112 : decode cX1_digest 112 = .ok (.aload_n 0, 1) := dk_42 (dk_at dksX1_digest_4 16 rfl rfl)
theorem dX1_digest_113 : decode cX1_digest 113 = .ok (.getfield 99, 3) := dk_180 0 99 (dk_at dksX1_digest_4 17 rfl rfl)
theorem dX1_digest_116 : decode cX1_digest 116 = .ok (.iload_n 3, 1) := dk_29 (dk_at dksX1_digest_4 20 rfl rfl)
theorem dX1_digest_117 : decode cX1_digest 117 = .ok (.bipush 6, 2) := dk_16 6 (dk_at dksX1_digest_4 21 rfl rfl)
theorem dX1_digest_119 : decode cX1_digest 119 = .ok (.idiv, 1) := dk_108 (dk_at dksX1_digest_4 23 rfl rfl)
theorem dX1_digest_120 : decode cX1_digest 120 = .ok (.iload_n 3, 1) := dk_29 (dk_at dksX1_digest_5 0 rfl rfl)
theorem dX1_digest_121 : decode cX1_digest 121 = .ok (.bipush 6, 2) := dk_16 6 (dk_at dksX1_digest_5 1 rfl rfl)
theorem dX1_digest_123 : decode cX1_digest 123 = .ok (.irem, 1) := dk_112 (dk_at dksX1_digest_5 3 rfl rfl)
theorem dX1_digest_124 : decode cX1_digest 124 = .ok (.invokevirtual 195, 3) := dk_182 0 195 (dk_at dksX1_digest_5 4 rfl rfl)
theorem dX1_digest_127 : decode cX1_digest 127 = .ok (.invokestatic 250, 3) := dk_184 0 250 (dk_at dksX1_digest_5 7 rfl rfl)
theorem dX1_digest_130 : decode cX1_digest 130 = .ok (.lstore_n 1, 1) := dk_64 (dk_at dksX1_digest_5 10 rfl rfl)
theorem dX1_digest_131 : decode cX1_digest 131 = .ok (.iinc 3 1, 3) := dk_132 3 1 (dk_at dksX1_digest_5 11 rfl rfl)
theorem dX1_digest_134 : decode cX1_digest 134 = .ok (.goto (-30), 3) := dk_167 255 226 (dk_at dksX1_digest_5 14 rfl rfl)
theorem dX1_digest_137 : decode cX1_digest 137 = .ok (.aload_n 0, 1) := dk_42 (dk_at dksX1_digest_5 17 rfl rfl)
theorem dX1_digest_138 : decode cX1_digest 138 = .ok (.getfield 99, 3) := dk_180 0 99 (dk_at dksX1_digest_5 18 rfl rfl)
theorem dX1_digest_141 : decode cX1_digest 141 = .ok (.iconst 5, 1) := dk_8 (dk_at dksX1_digest_5 21 rfl rfl)
theorem dX1_digest_142 : decode cX1_digest 142 = .ok (.invokevirtual 168, 3) := dk_182 0 168 (dk_at dksX1_digest_6 0 rfl rfl)
theorem dX1_digest_145 : decode cX1_digest 145 = .ok (.istore_n 3, 1) := dk_62 (dk_at dksX1_digest_6 3 rfl rfl)
theorem dX1_digest_146 : decode cX1_digest 146 = .ok (.iconst 0, 1) := dk_3 (dk_at dksX1_digest_6 4 rfl rfl)
theorem dX1_digest_147 : decode cX1_digest 147 = .ok (.istore 4, 2) := dk_54 4 (dk_at dksX1_digest_6 5 rfl rfl)
theorem dX1_digest_149 : decode cX1_digest 149 = .ok (.iload 4, 2) := dk_21 4 (dk_at dksX1_digest_6 7 rfl rfl)
theorem dX1_digest_151 : decode cX1_digest 151 = .ok (.iload_n 3, 1) := dk_29 (dk_at dksX1_digest_6 9 rfl rfl)
theorem dX1_digest_152 : decode cX1_digest 152 = .ok (.iconst 4, 1) := dk_7 (dk_at dksX1_digest_6 10 rfl rfl)
theorem dX1_digest_153 : decode cX1_digest 153 = .ok (.imul, 1) := dk_104 (dk_at dksX1_digest_6 11 rfl rfl)
theorem dX1_digest_154 : decode cX1_digest 154 = .ok (.if_icmp .ge 29, 3) := dk_162 0 29 (dk_at dksX1_digest_6 12 rfl rfl)
theorem dX1_digest_157 : decode cX1_digest 157 = .ok (.lload_n 1, 1) := dk_31 (dk_at dksX1_digest_6 15 rfl rfl)
theorem dX1_digest_158 : decode cX1_digest 158 = .ok (.aload_n 0, 1) := dk_42 (dk_at dksX1_digest_6 16 rfl rfl)
theorem dX1_digest_159 : decode cX1_digest 159 = .ok (.getfield 99, 3) := dk_180 0 99 (dk_at dksX1_digest_6 17 rfl rfl)
theorem dX1_digest_162 : decode cX1_digest 162 = .ok (.iload 4, 2) := dk_21 4 (dk_at dksX1_digest_6 20 rfl rfl)
theorem dX1_digest_164 : decode cX1_digest 164 = .ok (.iconst 4, 1) := dk_7 (dk_at dksX1_digest_6 22 rfl rfl)
theorem dX1_digest_165 : decode cX1_digest 165 = .ok (.idiv, 1) := dk_108 (dk_at dksX1_digest_6 23 rfl rfl)
theorem dX1_digest_166 : decode cX1_digest 166 = .ok (.iload 4, 2) := dk_21 4 (dk_at dksX1_digest_7 0 rfl rfl)
theorem dX1_digest_168 : decode cX1_digest 168 = .ok (.iconst 4, 1) := dk_7 (dk_at dksX1_digest_7 2 rfl rfl)
theorem dX1_digest_169 : decode cX1_digest 169 = .ok (.irem, 1) := dk_112 (dk_at dksX1_digest_7 3 rfl rfl)
theorem dX1_digest_170 : decode cX1_digest 170 = .ok (.invokevirtual 180, 3) := dk_182 0 180 (dk_at dksX1_digest_7 4 rfl rfl)
theorem dX1_digest_173 : decode cX1_digest 173 = .ok (.invokestatic 250, 3) := dk_184 0 250 (dk_at dksX1_digest_7 7 rfl rfl)
theorem dX1_digest_176 : decode cX1_digest 176 = .ok (.lstore_n 1, 1) := dk_64 (dk_at dksX1_digest_7 10 rfl rfl)
theorem dX1_digest_177 : decode cX1_digest 177 = .ok (.iinc 4 1, 3) := dk_132 4 1 (dk_at dksX1_digest_7 11 rfl rfl)
theorem dX1_digest_180 : decode cX1_digest 180 = .ok (.goto (-31), 3) := dk_167 255 225 (dk_at dksX1_digest_7 14 rfl rfl)
theorem dX1_digest_183 : decode cX1_digest 183 = .ok (.aload_n 0, 1) := dk_42 (dk_at dksX1_digest_7 17 rfl rfl)
theorem dX1_digest_184 : decode cX1_digest 184 = .ok (.lload_n 1, 1) := dk_31 (dk_at dksX1_digest_7 18 rfl rfl)
theorem dX1_digest_185 : decode cX1_digest 185 = .ok (.aload_n 0, 1) := dk_42 (dk_at dksX1_digest_7 19 rfl rfl)
theorem dX1_digest_186 : decode cX1_digest 186 = .ok (.getfield 99, 3) := dk_180 0 99 (dk_at dksX1_digest_7 20 rfl rfl)
theorem dX1_digest_189 : decode cX1_digest 189 = .ok (.invokevirtual 204, 3) := dk_182 0 204 (dk_at dksX1_digest_8 0 rfl rfl)
theorem dX1_digest_192 : decode cX1_digest 192 = .ok (.invokestatic 250, 3) := dk_184 0 250 (dk_at dksX1_digest_8 3 rfl rfl)
theorem dX1_digest_195 : decode cX1_digest 195 = .ok (.invokevirtual 256, 3) := dk_182 1 0 (dk_at dksX1_digest_8 6 rfl rfl)
theorem dX1_digest_198 : decode cX1_digest 198 = .ok (.lreturn, 1) := dk_173 (dk_at dksX1_digest_8 9 rfl rfl)
/-! PageGarden.digest()J -/
abbrev M_X1_digest (z0 n0 : Nat) (s' : gS) : gM := (RX1, cX1_digest, 5, (some FieldType.long), "digest", [], 111, z0, n0, s'.2.1, s'.2.2)
abbrev W_X1_digest (E : gE) (z0 n0 : Nat) (r : (Int64 ⊕ String)) (s' : gS) (pc : Nat) (L : List (Nat × gV)) (st : List gV) (s : gS) : Prop := gW E (M_X1_digest z0 n0 s') (gQm E (M_X1_digest z0 n0 s') (gOj r) s') pc L st s
noncomputable def f_X1_digest_149b (κ : gK) (F : Nat) (k149 : Option Nat → Int64 → Int32 → Int32 → gS → Option ((Int64 ⊕ String) × gS)) (l0 : Option Nat) (l1 : Int64) (l3 : Int32) (l4 : Int32) (s : gS) : Option ((Int64 ⊕ String) × gS) :=
  if (l3 * (4 : Int32)) ≤ l4 then
    gB1 (gfR s l0 0 0) fun v1 =>
    gB1 (gck s v1 7) fun _ =>
    gB2 (f_X3_nextBed κ F v1  s) fun v3 s2 =>
    gB2 (f_X1_hash κ F l1 v3 s2) fun v6 s5 =>
    gB1 (gck s5 l0 0) fun _ =>
    gB3 (f_X1_hashDraft κ F l0 v6 s5) fun v8 s7 =>
    some ((.inl v8), s7)
  else
    gB1 (gfR s l0 0 0) fun v10 =>
    gB1 (gck s v10 7) fun _ =>
    gB2 (f_X3_entryValue κ F v10 (l4 / (4 : Int32)) (l4 - l4 / (4 : Int32) * (4 : Int32)) s) fun v12 s11 =>
    gB2 (f_X1_hash κ F l1 v12 s11) fun v15 s14 =>
    k149 l0 v15 l3 (l4 + (1 : Int32)) s14
noncomputable def f_X1_digest_149 (κ : gK) (F : Nat)  : Nat → Option Nat → Int64 → Int32 → Int32 → gS → Option ((Int64 ⊕ String) × gS)
  | 0 => fun _ _ _ _ _ => none
  | n + 1 => f_X1_digest_149b κ F  (f_X1_digest_149 κ F  n)
set_option maxHeartbeats 4000000 in
theorem w_X1_digest_149b {E : gE} {F z0 n0 : Nat} {r : (Int64 ⊕ String)} {s' : gS} {k149 : Option Nat → Int64 → Int32 → Int32 → gS → Option ((Int64 ⊕ String) × gS)} (hk149 : ∀ (l0 : Option Nat) (l1 : Int64) (l3 : Int32) (l4 : Int32) (s : gS), k149 l0 l1 l3 l4 s = some (r, s') → W_X1_digest E z0 n0 r s' 149 [(0, vR l0), (1, vJ l1), (3, vI l3), (4, vI l4)] [] s) : ∀ (l0 : Option Nat) (l1 : Int64) (l3 : Int32) (l4 : Int32)  (s : gS), f_X1_digest_149b (gk E) F k149 l0 l1 l3 l4 s = some (r, s') → W_X1_digest E z0 n0 r s' 149 [(0, vR l0), (1, vJ l1), (3, vI l3), (4, vI l4)] [] s := by
  intro l0 l1 l3 l4 s hB
  unfold f_X1_digest_149b at hB
  refine gw_iload 3 rfl dX1_digest_149 ?_
  refine gw_iload_n 2 rfl dX1_digest_151 ?_
  refine gw_iconst (v := (4 : Int32)) (by decide) dX1_digest_152 ?_
  refine gw_imul dX1_digest_153 ?_
  refine gw_icmp_ge (tgt := 183) dX1_digest_154 (by decide) (fun hcnd => ?_) (fun hcnd => ?_)
  · rw [if_pos hcnd] at hB
    refine gw_aload_n 0 rfl dX1_digest_183 ?_
    refine gw_lload_n 1 rfl dX1_digest_184 ?_
    refine gw_aload_n 0 rfl dX1_digest_185 ?_
    obtain ⟨v1, hv1, hB⟩ := gB1_some hB
    refine gw_getf (C := RX1) (T := TX1) (N := 4) (k := 0) gcl0 (by decide) in_X1 q1271 (gfR_spec hv1) dX1_digest_186 ?_
    obtain ⟨u0, hu4, hB⟩ := gB1_some hB
    obtain ⟨v3, s2, hv3, hB⟩ := gB2_some hB
    refine gw_callV (y := yX3_nextBed) (lw_V q1290 q1291 q1292 q110 q1293) hdV_X3_nextBed gcl7 hu4 (As := []) (rest := [vJ l1, vR l0]) (m_X3_nextBed _ _ _ _ hv3) (Nat.le_of_ble_eq_true rfl) (Nat.le_of_ble_eq_true rfl) rfl (Nat.le_of_ble_eq_true rfl) dX1_digest_189 (gCont_i ?_)
    obtain ⟨v6, s5, hv6, hB⟩ := gB2_some hB
    refine gw_callS (y := yX1_hash) (lw_S q2387 q2388 q108 q2389) hdS_X1_hash (As := [vJ l1, vI v3]) (rest := [vR l0]) (m_X1_hash _ _ _ _ _ hv6) (Nat.le_of_ble_eq_true rfl) (Nat.le_of_ble_eq_true rfl) rfl (Nat.le_of_ble_eq_true rfl) dX1_digest_192 (gCont_i ?_)
    obtain ⟨u0, hu9, hB⟩ := gB1_some hB
    rcases gB3_some hB with ⟨v8, s7, hv8, hB⟩ | ⟨Cv8, hv8, hzv8⟩
    rotate_left
    · subst hzv8
      exact gw_callV (y := yX1_hashDraft) (lw_V q2489 q2491 qs44 q108 q2492) hdV_X1_hashDraft gcl0 hu9 (As := [vJ v6]) (rest := []) (m_X1_hashDraft _ _ _ _ _ hv8) (Nat.le_of_ble_eq_true rfl) (Nat.le_of_ble_eq_true rfl) rfl (Nat.le_of_ble_eq_true rfl) dX1_digest_195 (gCont_x (gx_out rfl rfl rfl))
    refine gw_callV (y := yX1_hashDraft) (lw_V q2489 q2491 qs44 q108 q2492) hdV_X1_hashDraft gcl0 hu9 (As := [vJ v6]) (rest := []) (m_X1_hashDraft _ _ _ _ _ hv8) (Nat.le_of_ble_eq_true rfl) (Nat.le_of_ble_eq_true rfl) rfl (Nat.le_of_ble_eq_true rfl) dX1_digest_195 (gCont_i ?_)
    obtain ⟨rfl, rfl⟩ := Prod.mk.inj (Option.some.inj hB)
    exact gw_lret rfl rfl rfl dX1_digest_198
  · rw [if_neg hcnd] at hB
    refine gw_lload_n 1 rfl dX1_digest_157 ?_
    refine gw_aload_n 0 rfl dX1_digest_158 ?_
    obtain ⟨v10, hv10, hB⟩ := gB1_some hB
    refine gw_getf (C := RX1) (T := TX1) (N := 4) (k := 0) gcl0 (by decide) in_X1 q1271 (gfR_spec hv10) dX1_digest_159 ?_
    refine gw_iload 3 rfl dX1_digest_162 ?_
    refine gw_iconst (v := (4 : Int32)) (by decide) dX1_digest_164 ?_
    refine gw_idiv (by decide) dX1_digest_165 ?_
    refine gw_iload 3 rfl dX1_digest_166 ?_
    refine gw_iconst (v := (4 : Int32)) (by decide) dX1_digest_168 ?_
    refine gw_irem (by decide) dX1_digest_169 ?_
    obtain ⟨u0, hu13, hB⟩ := gB1_some hB
    obtain ⟨v12, s11, hv12, hB⟩ := gB2_some hB
    refine gw_callV (y := yX3_entryValue) (lw_V q2485 q2486 q2487 q110 q2488) hdV_X3_entryValue gcl7 hu13 (As := [vI (l4 / (4 : Int32)), vI (l4 - l4 / (4 : Int32) * (4 : Int32))]) (rest := [vJ l1]) (m_X3_entryValue _ _ _ _ _ _ hv12) (Nat.le_of_ble_eq_true rfl) (Nat.le_of_ble_eq_true rfl) rfl (Nat.le_of_ble_eq_true rfl) dX1_digest_170 (gCont_i ?_)
    obtain ⟨v15, s14, hv15, hB⟩ := gB2_some hB
    refine gw_callS (y := yX1_hash) (lw_S q2387 q2388 q108 q2389) hdS_X1_hash (As := [vJ l1, vI v12]) (rest := []) (m_X1_hash _ _ _ _ _ hv15) (Nat.le_of_ble_eq_true rfl) (Nat.le_of_ble_eq_true rfl) rfl (Nat.le_of_ble_eq_true rfl) dX1_digest_173 (gCont_i ?_)
    refine gw_lstore_n (L' := [(1, vJ v15), (0, vR l0), (3, vI l3), (4, vI l4)]) (Nat.le_of_ble_eq_true rfl) rfl dX1_digest_176 ?_
    refine gw_iinc (w := (1 : Int32)) (L' := [(4, vI (l4 + (1 : Int32))), (1, vJ v15), (0, vR l0), (3, vI l3)]) 3 rfl (by decide) (Nat.le_of_ble_eq_true rfl) rfl dX1_digest_177 ?_
    refine gw_goto (tgt := 149) dX1_digest_180 (by decide) ?_
    exact gw_sub [2, 1, 3, 0] rfl (hk149 _ _ _ _ _ hB)
theorem w_X1_digest_149 {E : gE} {F z0 n0 : Nat} {r : (Int64 ⊕ String)} {s' : gS}   : ∀ (n : Nat) (l0 : Option Nat) (l1 : Int64) (l3 : Int32) (l4 : Int32)  (s : gS), f_X1_digest_149 (gk E) F  n l0 l1 l3 l4 s = some (r, s') → W_X1_digest E z0 n0 r s' 149 [(0, vR l0), (1, vJ l1), (3, vI l3), (4, vI l4)] [] s := by
  intro n
  induction n with
  | zero => intro l0 l1 l3 l4 s hB; cases hB
  | succ n ih => intro l0 l1 l3 l4 s hB; exact w_X1_digest_149b ih l0 l1 l3 l4 s hB
noncomputable def f_X1_digest_104b (κ : gK) (F : Nat) (k104 : Option Nat → Int64 → Int32 → gS → Option ((Int64 ⊕ String) × gS)) (l0 : Option Nat) (l1 : Int64) (l3 : Int32) (s : gS) : Option ((Int64 ⊕ String) × gS) :=
  if (192 : Int32) ≤ l3 then
    gB1 (gfR s l0 0 0) fun v1 =>
    gB1 (gck s v1 7) fun _ =>
    gB2 (f_X3_value κ F v1 (5 : Int32) s) fun v3 s2 =>
    f_X1_digest_149 κ F  F l0 l1 v3 (0 : Int32) s2
  else
    gB1 (gfR s l0 0 0) fun v5 =>
    gB1 (gck s v5 7) fun _ =>
    gB2 (f_X3_bedValue κ F v5 (l3 / (6 : Int32)) (l3 - l3 / (6 : Int32) * (6 : Int32)) s) fun v7 s6 =>
    gB2 (f_X1_hash κ F l1 v7 s6) fun v10 s9 =>
    k104 l0 v10 (l3 + (1 : Int32)) s9
noncomputable def f_X1_digest_104 (κ : gK) (F : Nat)  : Nat → Option Nat → Int64 → Int32 → gS → Option ((Int64 ⊕ String) × gS)
  | 0 => fun _ _ _ _ => none
  | n + 1 => f_X1_digest_104b κ F  (f_X1_digest_104 κ F  n)
set_option maxHeartbeats 4000000 in
theorem w_X1_digest_104b {E : gE} {F z0 n0 : Nat} {r : (Int64 ⊕ String)} {s' : gS} {k104 : Option Nat → Int64 → Int32 → gS → Option ((Int64 ⊕ String) × gS)} (hk104 : ∀ (l0 : Option Nat) (l1 : Int64) (l3 : Int32) (s : gS), k104 l0 l1 l3 s = some (r, s') → W_X1_digest E z0 n0 r s' 104 [(0, vR l0), (1, vJ l1), (3, vI l3)] [] s) : ∀ (l0 : Option Nat) (l1 : Int64) (l3 : Int32)  (s : gS), f_X1_digest_104b (gk E) F k104 l0 l1 l3 s = some (r, s') → W_X1_digest E z0 n0 r s' 104 [(0, vR l0), (1, vJ l1), (3, vI l3)] [] s := by
  intro l0 l1 l3 s hB
  unfold f_X1_digest_104b at hB
  refine gw_iload_n 2 rfl dX1_digest_104 ?_
  refine gw_sipush (v := (192 : Int32)) (by decide) dX1_digest_105 ?_
  refine gw_icmp_ge (tgt := 137) dX1_digest_108 (by decide) (fun hcnd => ?_) (fun hcnd => ?_)
  · rw [if_pos hcnd] at hB
    refine gw_aload_n 0 rfl dX1_digest_137 ?_
    obtain ⟨v1, hv1, hB⟩ := gB1_some hB
    refine gw_getf (C := RX1) (T := TX1) (N := 4) (k := 0) gcl0 (by decide) in_X1 q1271 (gfR_spec hv1) dX1_digest_138 ?_
    refine gw_iconst (v := (5 : Int32)) (by decide) dX1_digest_141 ?_
    obtain ⟨u0, hu4, hB⟩ := gB1_some hB
    obtain ⟨v3, s2, hv3, hB⟩ := gB2_some hB
    refine gw_callV (y := yX3_value) (lw_V q2395 q2396 q2397 q110 q2398) hdV_X3_value gcl7 hu4 (As := [vI (5 : Int32)]) (rest := []) (m_X3_value _ _ _ _ _ hv3) (Nat.le_of_ble_eq_true rfl) (Nat.le_of_ble_eq_true rfl) rfl (Nat.le_of_ble_eq_true rfl) dX1_digest_142 (gCont_i ?_)
    refine gw_istore_n (L' := [(3, vI v3), (0, vR l0), (1, vJ l1)]) (Nat.le_of_ble_eq_true rfl) rfl dX1_digest_145 ?_
    refine gw_iconst (v := (0 : Int32)) (by decide) dX1_digest_146 ?_
    refine gw_istore (L' := [(4, vI (0 : Int32)), (3, vI v3), (0, vR l0), (1, vJ l1)]) (Nat.le_of_ble_eq_true rfl) rfl dX1_digest_147 ?_
    exact gw_sub [2, 3, 1, 0] rfl (w_X1_digest_149  F _ _ _ _ _ hB)
  · rw [if_neg hcnd] at hB
    refine gw_lload_n 1 rfl dX1_digest_111 ?_
    refine gw_aload_n 0 rfl dX1_digest_112 ?_
    obtain ⟨v5, hv5, hB⟩ := gB1_some hB
    refine gw_getf (C := RX1) (T := TX1) (N := 4) (k := 0) gcl0 (by decide) in_X1 q1271 (gfR_spec hv5) dX1_digest_113 ?_
    refine gw_iload_n 2 rfl dX1_digest_116 ?_
    refine gw_bipush (v := (6 : Int32)) (by decide) dX1_digest_117 ?_
    refine gw_idiv (by decide) dX1_digest_119 ?_
    refine gw_iload_n 2 rfl dX1_digest_120 ?_
    refine gw_bipush (v := (6 : Int32)) (by decide) dX1_digest_121 ?_
    refine gw_irem (by decide) dX1_digest_123 ?_
    obtain ⟨u0, hu8, hB⟩ := gB1_some hB
    obtain ⟨v7, s6, hv7, hB⟩ := gB2_some hB
    refine gw_callV (y := yX3_bedValue) (lw_V q2459 q2460 q2461 q110 q2462) hdV_X3_bedValue gcl7 hu8 (As := [vI (l3 / (6 : Int32)), vI (l3 - l3 / (6 : Int32) * (6 : Int32))]) (rest := [vJ l1]) (m_X3_bedValue _ _ _ _ _ _ hv7) (Nat.le_of_ble_eq_true rfl) (Nat.le_of_ble_eq_true rfl) rfl (Nat.le_of_ble_eq_true rfl) dX1_digest_124 (gCont_i ?_)
    obtain ⟨v10, s9, hv10, hB⟩ := gB2_some hB
    refine gw_callS (y := yX1_hash) (lw_S q2387 q2388 q108 q2389) hdS_X1_hash (As := [vJ l1, vI v7]) (rest := []) (m_X1_hash _ _ _ _ _ hv10) (Nat.le_of_ble_eq_true rfl) (Nat.le_of_ble_eq_true rfl) rfl (Nat.le_of_ble_eq_true rfl) dX1_digest_127 (gCont_i ?_)
    refine gw_lstore_n (L' := [(1, vJ v10), (0, vR l0), (3, vI l3)]) (Nat.le_of_ble_eq_true rfl) rfl dX1_digest_130 ?_
    refine gw_iinc (w := (1 : Int32)) (L' := [(3, vI (l3 + (1 : Int32))), (1, vJ v10), (0, vR l0)]) 2 rfl (by decide) (Nat.le_of_ble_eq_true rfl) rfl dX1_digest_131 ?_
    refine gw_goto (tgt := 104) dX1_digest_134 (by decide) ?_
    exact gw_sub [2, 1, 0] rfl (hk104 _ _ _ _ hB)
theorem w_X1_digest_104 {E : gE} {F z0 n0 : Nat} {r : (Int64 ⊕ String)} {s' : gS}   : ∀ (n : Nat) (l0 : Option Nat) (l1 : Int64) (l3 : Int32)  (s : gS), f_X1_digest_104 (gk E) F  n l0 l1 l3 s = some (r, s') → W_X1_digest E z0 n0 r s' 104 [(0, vR l0), (1, vJ l1), (3, vI l3)] [] s := by
  intro n
  induction n with
  | zero => intro l0 l1 l3 s hB; cases hB
  | succ n ih => intro l0 l1 l3 s hB; exact w_X1_digest_104b ih l0 l1 l3 s hB
noncomputable def f_X1_digest_72b (κ : gK) (F : Nat) (k72 : Option Nat → Int64 → Int32 → gS → Option ((Int64 ⊕ String) × gS)) (l0 : Option Nat) (l1 : Int64) (l3 : Int32) (s : gS) : Option ((Int64 ⊕ String) × gS) :=
  if (12 : Int32) ≤ l3 then
    f_X1_digest_104 κ F  F l0 l1 (0 : Int32) s
  else
    gB1 (gfR s l0 0 0) fun v1 =>
    gB1 (gck s v1 7) fun _ =>
    gB2 (f_X3_readerValue κ F v1 (l3 / (3 : Int32)) (l3 - l3 / (3 : Int32) * (3 : Int32)) s) fun v3 s2 =>
    gB2 (f_X1_hash κ F l1 v3 s2) fun v6 s5 =>
    k72 l0 v6 (l3 + (1 : Int32)) s5
noncomputable def f_X1_digest_72 (κ : gK) (F : Nat)  : Nat → Option Nat → Int64 → Int32 → gS → Option ((Int64 ⊕ String) × gS)
  | 0 => fun _ _ _ _ => none
  | n + 1 => f_X1_digest_72b κ F  (f_X1_digest_72 κ F  n)
set_option maxHeartbeats 4000000 in
theorem w_X1_digest_72b {E : gE} {F z0 n0 : Nat} {r : (Int64 ⊕ String)} {s' : gS} {k72 : Option Nat → Int64 → Int32 → gS → Option ((Int64 ⊕ String) × gS)} (hk72 : ∀ (l0 : Option Nat) (l1 : Int64) (l3 : Int32) (s : gS), k72 l0 l1 l3 s = some (r, s') → W_X1_digest E z0 n0 r s' 72 [(0, vR l0), (1, vJ l1), (3, vI l3)] [] s) : ∀ (l0 : Option Nat) (l1 : Int64) (l3 : Int32)  (s : gS), f_X1_digest_72b (gk E) F k72 l0 l1 l3 s = some (r, s') → W_X1_digest E z0 n0 r s' 72 [(0, vR l0), (1, vJ l1), (3, vI l3)] [] s := by
  intro l0 l1 l3 s hB
  unfold f_X1_digest_72b at hB
  refine gw_iload_n 2 rfl dX1_digest_72 ?_
  refine gw_bipush (v := (12 : Int32)) (by decide) dX1_digest_73 ?_
  refine gw_icmp_ge (tgt := 102) dX1_digest_75 (by decide) (fun hcnd => ?_) (fun hcnd => ?_)
  · rw [if_pos hcnd] at hB
    refine gw_iconst (v := (0 : Int32)) (by decide) dX1_digest_102 ?_
    refine gw_istore_n (L' := [(3, vI (0 : Int32)), (0, vR l0), (1, vJ l1)]) (Nat.le_of_ble_eq_true rfl) rfl dX1_digest_103 ?_
    exact gw_sub [1, 2, 0] rfl (w_X1_digest_104  F _ _ _ _ hB)
  · rw [if_neg hcnd] at hB
    refine gw_lload_n 1 rfl dX1_digest_78 ?_
    refine gw_aload_n 0 rfl dX1_digest_79 ?_
    obtain ⟨v1, hv1, hB⟩ := gB1_some hB
    refine gw_getf (C := RX1) (T := TX1) (N := 4) (k := 0) gcl0 (by decide) in_X1 q1271 (gfR_spec hv1) dX1_digest_80 ?_
    refine gw_iload_n 2 rfl dX1_digest_83 ?_
    refine gw_iconst (v := (3 : Int32)) (by decide) dX1_digest_84 ?_
    refine gw_idiv (by decide) dX1_digest_85 ?_
    refine gw_iload_n 2 rfl dX1_digest_86 ?_
    refine gw_iconst (v := (3 : Int32)) (by decide) dX1_digest_87 ?_
    refine gw_irem (by decide) dX1_digest_88 ?_
    obtain ⟨u0, hu4, hB⟩ := gB1_some hB
    obtain ⟨v3, s2, hv3, hB⟩ := gB2_some hB
    refine gw_callVW (y := yX3_readerValue) (lw_VW q2430 q2431 q2432 q110 q2433) hdV_X3_readerValue gcl7 hu4 (As := [vI (l3 / (3 : Int32)), vI (l3 - l3 / (3 : Int32) * (3 : Int32))]) (rest := [vJ l1]) (m_X3_readerValue _ _ _ _ _ _ hv3) (Nat.le_of_ble_eq_true rfl) (Nat.le_of_ble_eq_true rfl) rfl (Nat.le_of_ble_eq_true rfl) dX1_digest_89 (gCont_i ?_)
    obtain ⟨v6, s5, hv6, hB⟩ := gB2_some hB
    refine gw_callS (y := yX1_hash) (lw_S q2387 q2388 q108 q2389) hdS_X1_hash (As := [vJ l1, vI v3]) (rest := []) (m_X1_hash _ _ _ _ _ hv6) (Nat.le_of_ble_eq_true rfl) (Nat.le_of_ble_eq_true rfl) rfl (Nat.le_of_ble_eq_true rfl) dX1_digest_92 (gCont_i ?_)
    refine gw_lstore_n (L' := [(1, vJ v6), (0, vR l0), (3, vI l3)]) (Nat.le_of_ble_eq_true rfl) rfl dX1_digest_95 ?_
    refine gw_iinc (w := (1 : Int32)) (L' := [(3, vI (l3 + (1 : Int32))), (1, vJ v6), (0, vR l0)]) 2 rfl (by decide) (Nat.le_of_ble_eq_true rfl) rfl dX1_digest_96 ?_
    refine gw_goto (tgt := 72) dX1_digest_99 (by decide) ?_
    exact gw_sub [2, 1, 0] rfl (hk72 _ _ _ _ hB)
theorem w_X1_digest_72 {E : gE} {F z0 n0 : Nat} {r : (Int64 ⊕ String)} {s' : gS}   : ∀ (n : Nat) (l0 : Option Nat) (l1 : Int64) (l3 : Int32)  (s : gS), f_X1_digest_72 (gk E) F  n l0 l1 l3 s = some (r, s') → W_X1_digest E z0 n0 r s' 72 [(0, vR l0), (1, vJ l1), (3, vI l3)] [] s := by
  intro n
  induction n with
  | zero => intro l0 l1 l3 s hB; cases hB
  | succ n ih => intro l0 l1 l3 s hB; exact w_X1_digest_72b ih l0 l1 l3 s hB
noncomputable def f_X1_digest_40b (κ : gK) (F : Nat) (k40 : Option Nat → Int64 → Int32 → gS → Option ((Int64 ⊕ String) × gS)) (l0 : Option Nat) (l1 : Int64) (l3 : Int32) (s : gS) : Option ((Int64 ⊕ String) × gS) :=
  if (8 : Int32) ≤ l3 then
    f_X1_digest_72 κ F  F l0 l1 (0 : Int32) s
  else
    gB1 (gfR s l0 0 0) fun v1 =>
    gB1 (gck s v1 7) fun _ =>
    gB2 (f_X3_rootValue κ F v1 (l3 / (4 : Int32)) (l3 - l3 / (4 : Int32) * (4 : Int32)) s) fun v3 s2 =>
    gB2 (f_X1_hash κ F l1 v3 s2) fun v6 s5 =>
    k40 l0 v6 (l3 + (1 : Int32)) s5
noncomputable def f_X1_digest_40 (κ : gK) (F : Nat)  : Nat → Option Nat → Int64 → Int32 → gS → Option ((Int64 ⊕ String) × gS)
  | 0 => fun _ _ _ _ => none
  | n + 1 => f_X1_digest_40b κ F  (f_X1_digest_40 κ F  n)
set_option maxHeartbeats 4000000 in
theorem w_X1_digest_40b {E : gE} {F z0 n0 : Nat} {r : (Int64 ⊕ String)} {s' : gS} {k40 : Option Nat → Int64 → Int32 → gS → Option ((Int64 ⊕ String) × gS)} (hk40 : ∀ (l0 : Option Nat) (l1 : Int64) (l3 : Int32) (s : gS), k40 l0 l1 l3 s = some (r, s') → W_X1_digest E z0 n0 r s' 40 [(0, vR l0), (1, vJ l1), (3, vI l3)] [] s) : ∀ (l0 : Option Nat) (l1 : Int64) (l3 : Int32)  (s : gS), f_X1_digest_40b (gk E) F k40 l0 l1 l3 s = some (r, s') → W_X1_digest E z0 n0 r s' 40 [(0, vR l0), (1, vJ l1), (3, vI l3)] [] s := by
  intro l0 l1 l3 s hB
  unfold f_X1_digest_40b at hB
  refine gw_iload_n 2 rfl dX1_digest_40 ?_
  refine gw_bipush (v := (8 : Int32)) (by decide) dX1_digest_41 ?_
  refine gw_icmp_ge (tgt := 70) dX1_digest_43 (by decide) (fun hcnd => ?_) (fun hcnd => ?_)
  · rw [if_pos hcnd] at hB
    refine gw_iconst (v := (0 : Int32)) (by decide) dX1_digest_70 ?_
    refine gw_istore_n (L' := [(3, vI (0 : Int32)), (0, vR l0), (1, vJ l1)]) (Nat.le_of_ble_eq_true rfl) rfl dX1_digest_71 ?_
    exact gw_sub [1, 2, 0] rfl (w_X1_digest_72  F _ _ _ _ hB)
  · rw [if_neg hcnd] at hB
    refine gw_lload_n 1 rfl dX1_digest_46 ?_
    refine gw_aload_n 0 rfl dX1_digest_47 ?_
    obtain ⟨v1, hv1, hB⟩ := gB1_some hB
    refine gw_getf (C := RX1) (T := TX1) (N := 4) (k := 0) gcl0 (by decide) in_X1 q1271 (gfR_spec hv1) dX1_digest_48 ?_
    refine gw_iload_n 2 rfl dX1_digest_51 ?_
    refine gw_iconst (v := (4 : Int32)) (by decide) dX1_digest_52 ?_
    refine gw_idiv (by decide) dX1_digest_53 ?_
    refine gw_iload_n 2 rfl dX1_digest_54 ?_
    refine gw_iconst (v := (4 : Int32)) (by decide) dX1_digest_55 ?_
    refine gw_irem (by decide) dX1_digest_56 ?_
    obtain ⟨u0, hu4, hB⟩ := gB1_some hB
    obtain ⟨v3, s2, hv3, hB⟩ := gB2_some hB
    refine gw_callV (y := yX3_rootValue) (lw_V q2426 q2427 q2428 q110 q2429) hdV_X3_rootValue gcl7 hu4 (As := [vI (l3 / (4 : Int32)), vI (l3 - l3 / (4 : Int32) * (4 : Int32))]) (rest := [vJ l1]) (m_X3_rootValue _ _ _ _ _ _ hv3) (Nat.le_of_ble_eq_true rfl) (Nat.le_of_ble_eq_true rfl) rfl (Nat.le_of_ble_eq_true rfl) dX1_digest_57 (gCont_i ?_)
    obtain ⟨v6, s5, hv6, hB⟩ := gB2_some hB
    refine gw_callS (y := yX1_hash) (lw_S q2387 q2388 q108 q2389) hdS_X1_hash (As := [vJ l1, vI v3]) (rest := []) (m_X1_hash _ _ _ _ _ hv6) (Nat.le_of_ble_eq_true rfl) (Nat.le_of_ble_eq_true rfl) rfl (Nat.le_of_ble_eq_true rfl) dX1_digest_60 (gCont_i ?_)
    refine gw_lstore_n (L' := [(1, vJ v6), (0, vR l0), (3, vI l3)]) (Nat.le_of_ble_eq_true rfl) rfl dX1_digest_63 ?_
    refine gw_iinc (w := (1 : Int32)) (L' := [(3, vI (l3 + (1 : Int32))), (1, vJ v6), (0, vR l0)]) 2 rfl (by decide) (Nat.le_of_ble_eq_true rfl) rfl dX1_digest_64 ?_
    refine gw_goto (tgt := 40) dX1_digest_67 (by decide) ?_
    exact gw_sub [2, 1, 0] rfl (hk40 _ _ _ _ hB)
theorem w_X1_digest_40 {E : gE} {F z0 n0 : Nat} {r : (Int64 ⊕ String)} {s' : gS}   : ∀ (n : Nat) (l0 : Option Nat) (l1 : Int64) (l3 : Int32)  (s : gS), f_X1_digest_40 (gk E) F  n l0 l1 l3 s = some (r, s') → W_X1_digest E z0 n0 r s' 40 [(0, vR l0), (1, vJ l1), (3, vI l3)] [] s := by
  intro n
  induction n with
  | zero => intro l0 l1 l3 s hB; cases hB
  | succ n ih => intro l0 l1 l3 s hB; exact w_X1_digest_40b ih l0 l1 l3 s hB
noncomputable def f_X1_digest_16b (κ : gK) (F : Nat) (k16 : Option Nat → Int64 → Int32 → gS → Option ((Int64 ⊕ String) × gS)) (l0 : Option Nat) (l1 : Int64) (l3 : Int32) (s : gS) : Option ((Int64 ⊕ String) × gS) :=
  if (15 : Int32) ≤ l3 then
    f_X1_digest_40 κ F  F l0 l1 (0 : Int32) s
  else
    gB1 (gck s l0 0) fun _ =>
    gB2 (f_X1_wholeOf κ F l0 l3 s) fun v2 s1 =>
    gB2 (f_X1_hash κ F l1 v2 s1) fun v5 s4 =>
    k16 l0 v5 (l3 + (1 : Int32)) s4
noncomputable def f_X1_digest_16 (κ : gK) (F : Nat)  : Nat → Option Nat → Int64 → Int32 → gS → Option ((Int64 ⊕ String) × gS)
  | 0 => fun _ _ _ _ => none
  | n + 1 => f_X1_digest_16b κ F  (f_X1_digest_16 κ F  n)
set_option maxHeartbeats 4000000 in
theorem w_X1_digest_16b {E : gE} {F z0 n0 : Nat} {r : (Int64 ⊕ String)} {s' : gS} {k16 : Option Nat → Int64 → Int32 → gS → Option ((Int64 ⊕ String) × gS)} (hk16 : ∀ (l0 : Option Nat) (l1 : Int64) (l3 : Int32) (s : gS), k16 l0 l1 l3 s = some (r, s') → W_X1_digest E z0 n0 r s' 16 [(0, vR l0), (1, vJ l1), (3, vI l3)] [] s) : ∀ (l0 : Option Nat) (l1 : Int64) (l3 : Int32)  (s : gS), f_X1_digest_16b (gk E) F k16 l0 l1 l3 s = some (r, s') → W_X1_digest E z0 n0 r s' 16 [(0, vR l0), (1, vJ l1), (3, vI l3)] [] s := by
  intro l0 l1 l3 s hB
  unfold f_X1_digest_16b at hB
  refine gw_iload_n 2 rfl dX1_digest_16 ?_
  refine gw_bipush (v := (15 : Int32)) (by decide) dX1_digest_17 ?_
  refine gw_icmp_ge (tgt := 38) dX1_digest_19 (by decide) (fun hcnd => ?_) (fun hcnd => ?_)
  · rw [if_pos hcnd] at hB
    refine gw_iconst (v := (0 : Int32)) (by decide) dX1_digest_38 ?_
    refine gw_istore_n (L' := [(3, vI (0 : Int32)), (0, vR l0), (1, vJ l1)]) (Nat.le_of_ble_eq_true rfl) rfl dX1_digest_39 ?_
    exact gw_sub [1, 2, 0] rfl (w_X1_digest_40  F _ _ _ _ hB)
  · rw [if_neg hcnd] at hB
    refine gw_lload_n 1 rfl dX1_digest_22 ?_
    refine gw_aload_n 0 rfl dX1_digest_23 ?_
    refine gw_iload_n 2 rfl dX1_digest_24 ?_
    obtain ⟨u0, hu3, hB⟩ := gB1_some hB
    obtain ⟨v2, s1, hv2, hB⟩ := gB2_some hB
    refine gw_callV (y := yX1_wholeOf) (lw_V q2391 q2393 qs41 q108 q2394) hdV_X1_wholeOf gcl0 hu3 (As := [vI l3]) (rest := [vJ l1]) (m_X1_wholeOf _ _ _ _ _ hv2) (Nat.le_of_ble_eq_true rfl) (Nat.le_of_ble_eq_true rfl) rfl (Nat.le_of_ble_eq_true rfl) dX1_digest_25 (gCont_i ?_)
    obtain ⟨v5, s4, hv5, hB⟩ := gB2_some hB
    refine gw_callS (y := yX1_hash) (lw_S q2387 q2388 q108 q2389) hdS_X1_hash (As := [vJ l1, vI v2]) (rest := []) (m_X1_hash _ _ _ _ _ hv5) (Nat.le_of_ble_eq_true rfl) (Nat.le_of_ble_eq_true rfl) rfl (Nat.le_of_ble_eq_true rfl) dX1_digest_28 (gCont_i ?_)
    refine gw_lstore_n (L' := [(1, vJ v5), (0, vR l0), (3, vI l3)]) (Nat.le_of_ble_eq_true rfl) rfl dX1_digest_31 ?_
    refine gw_iinc (w := (1 : Int32)) (L' := [(3, vI (l3 + (1 : Int32))), (1, vJ v5), (0, vR l0)]) 2 rfl (by decide) (Nat.le_of_ble_eq_true rfl) rfl dX1_digest_32 ?_
    refine gw_goto (tgt := 16) dX1_digest_35 (by decide) ?_
    exact gw_sub [2, 1, 0] rfl (hk16 _ _ _ _ hB)
theorem w_X1_digest_16 {E : gE} {F z0 n0 : Nat} {r : (Int64 ⊕ String)} {s' : gS}   : ∀ (n : Nat) (l0 : Option Nat) (l1 : Int64) (l3 : Int32)  (s : gS), f_X1_digest_16 (gk E) F  n l0 l1 l3 s = some (r, s') → W_X1_digest E z0 n0 r s' 16 [(0, vR l0), (1, vJ l1), (3, vI l3)] [] s := by
  intro n
  induction n with
  | zero => intro l0 l1 l3 s hB; cases hB
  | succ n ih => intro l0 l1 l3 s hB; exact w_X1_digest_16b ih l0 l1 l3 s hB
noncomputable def f_X1_digest_0 (κ : gK) (F : Nat)  (l0 : Option Nat) (s : gS) : Option ((Int64 ⊕ String) × gS) :=
  gB1 (gfR s l0 0 1) fun v1 =>
  gB1 (gck s v1 13) fun _ =>
  gB2 (f_J25_size κ F v1  s) fun v3 s2 =>
  gB2 (f_X1_hash κ F (43518 : Int64) v3 s2) fun v6 s5 =>
  f_X1_digest_16 κ F  F l0 v6 (0 : Int32) s5
set_option maxHeartbeats 4000000 in
theorem w_X1_digest_0 {E : gE} {F z0 n0 : Nat} {r : (Int64 ⊕ String)} {s' : gS}   : ∀ (l0 : Option Nat)  (s : gS), f_X1_digest_0 (gk E) F  l0 s = some (r, s') → W_X1_digest E z0 n0 r s' 0 [(0, vR l0)] [] s := by
  intro l0 s hB
  unfold f_X1_digest_0 at hB
  refine gw_ldc2 (43518 : Int64) q2386 dX1_digest_0 ?_
  refine gw_aload_n 0 rfl dX1_digest_3 ?_
  obtain ⟨v1, hv1, hB⟩ := gB1_some hB
  refine gw_getf (C := RX1) (T := TX1) (N := 4) (k := 1) gcl0 (by decide) in_X1 q1272 (gfR_spec hv1) dX1_digest_4 ?_
  obtain ⟨u0, hu4, hB⟩ := gB1_some hB
  obtain ⟨v3, s2, hv3, hB⟩ := gB2_some hB
  refine gw_callV (y := yJ25_size) (lw_V q2336 q2337 q2338 q142 q2339) hdV_J25_size gcl13 hu4 (As := []) (rest := [vJ (43518 : Int64)]) (m_J25_size _ _ _ _ hv3) (Nat.le_of_ble_eq_true rfl) (Nat.le_of_ble_eq_true rfl) rfl (Nat.le_of_ble_eq_true rfl) dX1_digest_7 (gCont_i ?_)
  obtain ⟨v6, s5, hv6, hB⟩ := gB2_some hB
  refine gw_callS (y := yX1_hash) (lw_S q2387 q2388 q108 q2389) hdS_X1_hash (As := [vJ (43518 : Int64), vI v3]) (rest := []) (m_X1_hash _ _ _ _ _ hv6) (Nat.le_of_ble_eq_true rfl) (Nat.le_of_ble_eq_true rfl) rfl (Nat.le_of_ble_eq_true rfl) dX1_digest_10 (gCont_i ?_)
  refine gw_lstore_n (L' := [(1, vJ v6), (0, vR l0)]) (Nat.le_of_ble_eq_true rfl) rfl dX1_digest_13 ?_
  refine gw_iconst (v := (0 : Int32)) (by decide) dX1_digest_14 ?_
  refine gw_istore_n (L' := [(3, vI (0 : Int32)), (1, vJ v6), (0, vR l0)]) (Nat.le_of_ble_eq_true rfl) rfl dX1_digest_15 ?_
  exact gw_sub [2, 1, 0] rfl (w_X1_digest_16  F _ _ _ _ hB)
noncomputable def f_X1_digest (κ : gK) (F : Nat) (a0 : Option Nat) (s : gS) : Option ((Int64 ⊕ String) × gS) := f_X1_digest_0 κ F a0 s
theorem m_X1_digest {E : gE} {F : Nat} (a0 : Option Nat) (s : gS) (r : (Int64 ⊕ String)) (s' : gS) (h : f_X1_digest (gk E) F a0 s = some (r, s')) : gCT E 111 yX1_digest (ws_ yX1_digest cX1_digest 5 (some FieldType.long)) [vR a0] s (gOj r) s' := by
  refine gCT_of2 (fun h => absurd h (by decide)) (plainFor_of_name (by decide)) (Nat.le_of_ble_eq_true rfl) ?_
  exact gw_sub [0] rfl (w_X1_digest_0 _ _ h)
def dkwX1_drafted_0 : List UInt8 := [27, 184, 0, 140, 42, 180, 0, 99, 27, 182, 0, 146, 172]
abbrev dktX1_drafted_0 : List UInt8 := dkwX1_drafted_0 ++ []
theorem dksX1_drafted_0 : cX1_drafted.data.toList.drop 0 = dktX1_drafted_0 := by decide +kernel
theorem dX1_drafted_0 : decode cX1_drafted 0 = .ok (.iload_n 1, 1) := dk_27 (dk_at dksX1_drafted_0 0 rfl rfl)
theorem dX1_drafted_1 : decode cX1_drafted 1 = .ok (.invokestatic 140, 3) := dk_184 0 140 (dk_at dksX1_drafted_0 1 rfl rfl)
theorem dX1_drafted_4 : decode cX1_drafted 4 = .ok (.aload_n 0, 1) := dk_42 (dk_at dksX1_drafted_0 4 rfl rfl)
theorem dX1_drafted_5 : decode cX1_drafted 5 = .ok (.getfield 99, 3) := dk_180 0 99 (dk_at dksX1_drafted_0 5 rfl rfl)
theorem dX1_drafted_8 : decode cX1_drafted 8 = .ok (.iload_n 1, 1) := dk_27 (dk_at dksX1_drafted_0 8 rfl rfl)
theorem dX1_drafted_9 : decode cX1_drafted 9 = .ok (.invokevirtual 146, 3) := dk_182 0 146 (dk_at dksX1_drafted_0 9 rfl rfl)
theorem dX1_drafted_12 : decode cX1_drafted 12 = .ok (.ireturn, 1) := dk_172 (dk_at dksX1_drafted_0 12 rfl rfl)
/-! PageGarden.drafted(I)I -/
abbrev M_X1_drafted (z0 n0 : Nat) (s' : gS) : gM := (RX1, cX1_drafted, 2, (some FieldType.int), "drafted", [], 12, z0, n0, s'.2.1, s'.2.2)
abbrev W_X1_drafted (E : gE) (z0 n0 : Nat) (r : (Int32 ⊕ String)) (s' : gS) (pc : Nat) (L : List (Nat × gV)) (st : List gV) (s : gS) : Prop := gW E (M_X1_drafted z0 n0 s') (gQm E (M_X1_drafted z0 n0 s') (gOi r) s') pc L st s
noncomputable def f_X1_drafted_0 (κ : gK) (F : Nat)  (l0 : Option Nat) (l1 : Int32) (s : gS) : Option ((Int32 ⊕ String) × gS) :=
  gB3 (f_X3_requireKey κ F l1 s) fun v2 s1 =>
  gB1 (gfR s1 l0 0 0) fun v3 =>
  gB1 (gck s1 v3 7) fun _ =>
  gB3 (f_X3_drafted κ F v3 l1 s1) fun v5 s4 =>
  some ((.inl v5), s4)
set_option maxHeartbeats 4000000 in
theorem w_X1_drafted_0 {E : gE} {F z0 n0 : Nat} {r : (Int32 ⊕ String)} {s' : gS}   : ∀ (l0 : Option Nat) (l1 : Int32)  (s : gS), f_X1_drafted_0 (gk E) F  l0 l1 s = some (r, s') → W_X1_drafted E z0 n0 r s' 0 [(0, vR l0), (1, vI l1)] [] s := by
  intro l0 l1 s hB
  unfold f_X1_drafted_0 at hB
  refine gw_iload_n 1 rfl dX1_drafted_0 ?_
  rcases gB3_some hB with ⟨v2, s1, hv2, hB⟩ | ⟨Cv2, hv2, hzv2⟩
  rotate_left
  · subst hzv2
    exact gw_callS (y := yX3_requireKey) (lw_S q2553 q1993 q110 q1994) hdS_X3_requireKey (As := [vI l1]) (rest := []) (m_X3_requireKey _ _ _ _ hv2) (Nat.le_of_ble_eq_true rfl) (Nat.le_of_ble_eq_true rfl) rfl (Nat.le_of_ble_eq_true rfl) dX1_drafted_1 (gCont_x (gx_out rfl rfl rfl))
  refine gw_callS (y := yX3_requireKey) (lw_S q2553 q1993 q110 q1994) hdS_X3_requireKey (As := [vI l1]) (rest := []) (m_X3_requireKey _ _ _ _ hv2) (Nat.le_of_ble_eq_true rfl) (Nat.le_of_ble_eq_true rfl) rfl (Nat.le_of_ble_eq_true rfl) dX1_drafted_1 (gCont_v ?_)
  refine gw_aload_n 0 rfl dX1_drafted_4 ?_
  obtain ⟨v3, hv3, hB⟩ := gB1_some hB
  refine gw_getf (C := RX1) (T := TX1) (N := 4) (k := 0) gcl0 (by decide) in_X1 q1271 (gfR_spec hv3) dX1_drafted_5 ?_
  refine gw_iload_n 1 rfl dX1_drafted_8 ?_
  obtain ⟨u0, hu6, hB⟩ := gB1_some hB
  rcases gB3_some hB with ⟨v5, s4, hv5, hB⟩ | ⟨Cv5, hv5, hzv5⟩
  rotate_left
  · subst hzv5
    exact gw_callV (y := yX3_drafted) (lw_V q2493 q2102 q2103 q110 q2104) hdV_X3_drafted gcl7 hu6 (As := [vI l1]) (rest := []) (m_X3_drafted _ _ _ _ _ hv5) (Nat.le_of_ble_eq_true rfl) (Nat.le_of_ble_eq_true rfl) rfl (Nat.le_of_ble_eq_true rfl) dX1_drafted_9 (gCont_x (gx_out rfl rfl rfl))
  refine gw_callV (y := yX3_drafted) (lw_V q2493 q2102 q2103 q110 q2104) hdV_X3_drafted gcl7 hu6 (As := [vI l1]) (rest := []) (m_X3_drafted _ _ _ _ _ hv5) (Nat.le_of_ble_eq_true rfl) (Nat.le_of_ble_eq_true rfl) rfl (Nat.le_of_ble_eq_true rfl) dX1_drafted_9 (gCont_i ?_)
  obtain ⟨rfl, rfl⟩ := Prod.mk.inj (Option.some.inj hB)
  exact gw_iret rfl rfl rfl dX1_drafted_12
noncomputable def f_X1_drafted (κ : gK) (F : Nat) (a0 : Option Nat) (a1 : Int32) (s : gS) : Option ((Int32 ⊕ String) × gS) := f_X1_drafted_0 κ F a0 a1 s
theorem m_X1_drafted {E : gE} {F : Nat} (a0 : Option Nat) (a1 : Int32) (s : gS) (r : (Int32 ⊕ String)) (s' : gS) (h : f_X1_drafted (gk E) F a0 a1 s = some (r, s')) : gCT E 12 yX1_drafted (ws_ yX1_drafted cX1_drafted 2 (some FieldType.int)) [vR a0, vI a1] s (gOi r) s' := by
  refine gCT_of2 (fun h => absurd h (by decide)) (plainFor_of_name (by decide)) (Nat.le_of_ble_eq_true rfl) ?_
  exact gw_sub [0, 1] rfl (w_X1_drafted_0 _ _ _ h)
def dkwX1_entry_1 : List UInt8 := [184, 0, 176, 42, 180, 0, 99, 27, 28, 182, 0, 180, 172]
abbrev dktX1_entry_1 : List UInt8 := dkwX1_entry_1 ++ []
def dkwX1_entry_0 : List UInt8 := [27, 133, 9, 42, 180, 0, 99, 8, 182, 0, 168, 4, 100, 133, 184, 0, 130, 18, 171, 184, 0, 173, 28, 7]
abbrev dktX1_entry_0 : List UInt8 := dkwX1_entry_0 ++ dktX1_entry_1
theorem dksX1_entry_0 : cX1_entry.data.toList.drop 0 = dktX1_entry_0 := by decide +kernel
theorem dksX1_entry_1 : cX1_entry.data.toList.drop 24 = dktX1_entry_1 := dk_seg dksX1_entry_0 24 rfl rfl
theorem dX1_entry_0 : decode cX1_entry 0 = .ok (.iload_n 1, 1) := dk_27 (dk_at dksX1_entry_0 0 rfl rfl)
theorem dX1_entry_1 : decode cX1_entry 1 = .ok (.i2l, 1) := dk_133 (dk_at dksX1_entry_0 1 rfl rfl)
theorem dX1_entry_2 : decode cX1_entry 2 = .ok (.lconst 0, 1) := dk_9 (dk_at dksX1_entry_0 2 rfl rfl)
theorem dX1_entry_3 : decode cX1_entry 3 = .ok (.aload_n 0, 1) := dk_42 (dk_at dksX1_entry_0 3 rfl rfl)
theorem dX1_entry_4 : decode cX1_entry 4 = .ok (.getfield 99, 3) := dk_180 0 99 (dk_at dksX1_entry_0 4 rfl rfl)
theorem dX1_entry_7 : decode cX1_entry 7 = .ok (.iconst 5, 1) := dk_8 (dk_at dksX1_entry_0 7 rfl rfl)
theorem dX1_entry_8 : decode cX1_entry 8 = .ok (.invokevirtual 168, 3) := dk_182 0 168 (dk_at dksX1_entry_0 8 rfl rfl)
theorem dX1_entry_11 : decode cX1_entry 11 = .ok (.iconst 1, 1) := dk_4 (dk_at dksX1_entry_0 11 rfl rfl)
theorem dX1_entry_12 : decode cX1_entry 12 = .ok (.isub, 1) := dk_100 (dk_at dksX1_entry_0 12 rfl rfl)
theorem dX1_entry_13 : decode cX1_entry 13 = .ok (.i2l, 1) := dk_133 (dk_at dksX1_entry_0 13 rfl rfl)
theorem dX1_entry_14 : decode cX1_entry 14 = .ok (.invokestatic 130, 3) := dk_184 0 130 (dk_at dksX1_entry_0 14 rfl rfl)
theorem dX1_entry_17 : decode cX1_entry 17 = .ok (.ldc 171, 2) := dk_18 171 (dk_at dksX1_entry_0 17 rfl rfl)
theorem dX1_entry_19 : decode cX1_entry 19 = .ok (.invokestatic 173, 3) := dk_184 0 173 (dk_at dksX1_entry_0 19 rfl rfl)
theorem dX1_entry_22 : decode cX1_entry 22 = .ok (.iload_n 2, 1) := dk_28 (dk_at dksX1_entry_0 22 rfl rfl)
theorem dX1_entry_23 : decode cX1_entry 23 = .ok (.iconst 4, 1) := dk_7 (dk_at dksX1_entry_0 23 rfl rfl)
theorem dX1_entry_24 : decode cX1_entry 24 = .ok (.invokestatic 176, 3) := dk_184 0 176 (dk_at dksX1_entry_1 0 rfl rfl)
theorem dX1_entry_27 : decode cX1_entry 27 = .ok (.aload_n 0, 1) := dk_42 (dk_at dksX1_entry_1 3 rfl rfl)
theorem dX1_entry_28 : decode cX1_entry 28 = .ok (.getfield 99, 3) := dk_180 0 99 (dk_at dksX1_entry_1 4 rfl rfl)
theorem dX1_entry_31 : decode cX1_entry 31 = .ok (.iload_n 1, 1) := dk_27 (dk_at dksX1_entry_1 7 rfl rfl)
theorem dX1_entry_32 : decode cX1_entry 32 = .ok (.iload_n 2, 1) := dk_28 (dk_at dksX1_entry_1 8 rfl rfl)
theorem dX1_entry_33 : decode cX1_entry 33 = .ok (.invokevirtual 180, 3) := dk_182 0 180 (dk_at dksX1_entry_1 9 rfl rfl)
theorem dX1_entry_36 : decode cX1_entry 36 = .ok (.ireturn, 1) := dk_172 (dk_at dksX1_entry_1 12 rfl rfl)
/-! PageGarden.entry(II)I -/
abbrev M_X1_entry (z0 n0 : Nat) (s' : gS) : gM := (RX1, cX1_entry, 3, (some FieldType.int), "entry", [], 11, z0, n0, s'.2.1, s'.2.2)
abbrev W_X1_entry (E : gE) (z0 n0 : Nat) (r : (Int32 ⊕ String)) (s' : gS) (pc : Nat) (L : List (Nat × gV)) (st : List gV) (s : gS) : Prop := gW E (M_X1_entry z0 n0 s') (gQm E (M_X1_entry z0 n0 s') (gOi r) s') pc L st s
noncomputable def f_X1_entry_0 (κ : gK) (F : Nat)  (l0 : Option Nat) (l1 : Int32) (l2 : Int32) (s : gS) : Option ((Int32 ⊕ String) × gS) :=
  gB1 (gfR s l0 0 0) fun v1 =>
  gB1 (gck s v1 7) fun _ =>
  gB2 (f_X3_value κ F v1 (5 : Int32) s) fun v3 s2 =>
  gB2 (f_X1_inRange κ F (l1.toInt64) (0 : Int64) ((v3 - (1 : Int32)).toInt64) s2) fun v6 s5 =>
  gB3 (f_X1_requireIndex κ F v6 (κ.2 18) s5) fun v8 s7 =>
  gB3 (f_X1_requireWhat κ F l2 (4 : Int32) s7) fun v10 s9 =>
  gB1 (gfR s9 l0 0 0) fun v11 =>
  gB1 (gck s9 v11 7) fun _ =>
  gB2 (f_X3_entryValue κ F v11 l1 l2 s9) fun v13 s12 =>
  some ((.inl v13), s12)
set_option maxHeartbeats 4000000 in
theorem w_X1_entry_0 {E : gE} {F z0 n0 : Nat} {r : (Int32 ⊕ String)} {s' : gS}   : ∀ (l0 : Option Nat) (l1 : Int32) (l2 : Int32)  (s : gS), f_X1_entry_0 (gk E) F  l0 l1 l2 s = some (r, s') → W_X1_entry E z0 n0 r s' 0 [(0, vR l0), (1, vI l1), (2, vI l2)] [] s := by
  intro l0 l1 l2 s hB
  unfold f_X1_entry_0 at hB
  refine gw_iload_n 1 rfl dX1_entry_0 ?_
  refine gw_i2l dX1_entry_1 ?_
  refine gw_lconst (v := (0 : Int64)) (by decide) dX1_entry_2 ?_
  refine gw_aload_n 0 rfl dX1_entry_3 ?_
  obtain ⟨v1, hv1, hB⟩ := gB1_some hB
  refine gw_getf (C := RX1) (T := TX1) (N := 4) (k := 0) gcl0 (by decide) in_X1 q1271 (gfR_spec hv1) dX1_entry_4 ?_
  refine gw_iconst (v := (5 : Int32)) (by decide) dX1_entry_7 ?_
  obtain ⟨u0, hu4, hB⟩ := gB1_some hB
  obtain ⟨v3, s2, hv3, hB⟩ := gB2_some hB
  refine gw_callV (y := yX3_value) (lw_V q2395 q2396 q2397 q110 q2398) hdV_X3_value gcl7 hu4 (As := [vI (5 : Int32)]) (rest := [vJ (0 : Int64), vJ (l1.toInt64)]) (m_X3_value _ _ _ _ _ hv3) (Nat.le_of_ble_eq_true rfl) (Nat.le_of_ble_eq_true rfl) rfl (Nat.le_of_ble_eq_true rfl) dX1_entry_8 (gCont_i ?_)
  refine gw_iconst (v := (1 : Int32)) (by decide) dX1_entry_11 ?_
  refine gw_isub dX1_entry_12 ?_
  refine gw_i2l dX1_entry_13 ?_
  obtain ⟨v6, s5, hv6, hB⟩ := gB2_some hB
  refine gw_callS (y := yX1_inRange) (lw_S q2582 q1362 q108 q1363) hdS_X1_inRange (As := [vJ (l1.toInt64), vJ (0 : Int64), vJ ((v3 - (1 : Int32)).toInt64)]) (rest := []) (m_X1_inRange _ _ _ _ _ _ hv6) (Nat.le_of_ble_eq_true rfl) (Nat.le_of_ble_eq_true rfl) rfl (Nat.le_of_ble_eq_true rfl) dX1_entry_14 (gCont_i ?_)
  refine gw_ldcS (own := "PageGarden") (tx := "rank") (i := 18) rfl (by decide) dX1_entry_17 ?_
  rcases gB3_some hB with ⟨v8, s7, hv8, hB⟩ | ⟨Cv8, hv8, hzv8⟩
  rotate_left
  · subst hzv8
    exact gw_callS (y := yX1_requireIndex) (lw_S q2584 q2282 q108 q2283) hdS_X1_requireIndex (As := [vI v6, vR ((gk E).2 18)]) (rest := []) (m_X1_requireIndex _ _ _ _ _ hv8) (Nat.le_of_ble_eq_true rfl) (Nat.le_of_ble_eq_true rfl) rfl (Nat.le_of_ble_eq_true rfl) dX1_entry_19 (gCont_x (gx_out rfl rfl rfl))
  refine gw_callS (y := yX1_requireIndex) (lw_S q2584 q2282 q108 q2283) hdS_X1_requireIndex (As := [vI v6, vR ((gk E).2 18)]) (rest := []) (m_X1_requireIndex _ _ _ _ _ hv8) (Nat.le_of_ble_eq_true rfl) (Nat.le_of_ble_eq_true rfl) rfl (Nat.le_of_ble_eq_true rfl) dX1_entry_19 (gCont_v ?_)
  refine gw_iload_n 2 rfl dX1_entry_22 ?_
  refine gw_iconst (v := (4 : Int32)) (by decide) dX1_entry_23 ?_
  rcases gB3_some hB with ⟨v10, s9, hv10, hB⟩ | ⟨Cv10, hv10, hzv10⟩
  rotate_left
  · subst hzv10
    exact gw_callS (y := yX1_requireWhat) (lw_S q2585 q2586 q108 q2587) hdS_X1_requireWhat (As := [vI l2, vI (4 : Int32)]) (rest := []) (m_X1_requireWhat _ _ _ _ _ hv10) (Nat.le_of_ble_eq_true rfl) (Nat.le_of_ble_eq_true rfl) rfl (Nat.le_of_ble_eq_true rfl) dX1_entry_24 (gCont_x (gx_out rfl rfl rfl))
  refine gw_callS (y := yX1_requireWhat) (lw_S q2585 q2586 q108 q2587) hdS_X1_requireWhat (As := [vI l2, vI (4 : Int32)]) (rest := []) (m_X1_requireWhat _ _ _ _ _ hv10) (Nat.le_of_ble_eq_true rfl) (Nat.le_of_ble_eq_true rfl) rfl (Nat.le_of_ble_eq_true rfl) dX1_entry_24 (gCont_v ?_)
  refine gw_aload_n 0 rfl dX1_entry_27 ?_
  obtain ⟨v11, hv11, hB⟩ := gB1_some hB
  refine gw_getf (C := RX1) (T := TX1) (N := 4) (k := 0) gcl0 (by decide) in_X1 q1271 (gfR_spec hv11) dX1_entry_28 ?_
  refine gw_iload_n 1 rfl dX1_entry_31 ?_
  refine gw_iload_n 2 rfl dX1_entry_32 ?_
  obtain ⟨u0, hu14, hB⟩ := gB1_some hB
  obtain ⟨v13, s12, hv13, hB⟩ := gB2_some hB
  refine gw_callV (y := yX3_entryValue) (lw_V q2485 q2486 q2487 q110 q2488) hdV_X3_entryValue gcl7 hu14 (As := [vI l1, vI l2]) (rest := []) (m_X3_entryValue _ _ _ _ _ _ hv13) (Nat.le_of_ble_eq_true rfl) (Nat.le_of_ble_eq_true rfl) rfl (Nat.le_of_ble_eq_true rfl) dX1_entry_33 (gCont_i ?_)
  obtain ⟨rfl, rfl⟩ := Prod.mk.inj (Option.some.inj hB)
  exact gw_iret rfl rfl rfl dX1_entry_36
noncomputable def f_X1_entry (κ : gK) (F : Nat) (a0 : Option Nat) (a1 : Int32) (a2 : Int32) (s : gS) : Option ((Int32 ⊕ String) × gS) := f_X1_entry_0 κ F a0 a1 a2 s
theorem m_X1_entry {E : gE} {F : Nat} (a0 : Option Nat) (a1 : Int32) (a2 : Int32) (s : gS) (r : (Int32 ⊕ String)) (s' : gS) (h : f_X1_entry (gk E) F a0 a1 a2 s = some (r, s')) : gCT E 11 yX1_entry (ws_ yX1_entry cX1_entry 3 (some FieldType.int)) [vR a0, vI a1, vI a2] s (gOi r) s' := by
  refine gCT_of2 (fun h => absurd h (by decide)) (plainFor_of_name (by decide)) (Nat.le_of_ble_eq_true rfl) ?_
  exact gw_sub [0, 1, 2] rfl (w_X1_entry_0 _ _ _ _ h)
def dkwX1_get_0 : List UInt8 := [27, 184, 0, 140, 42, 180, 0, 99, 27, 182, 0, 143, 172]
abbrev dktX1_get_0 : List UInt8 := dkwX1_get_0 ++ []
theorem dksX1_get_0 : cX1_get.data.toList.drop 0 = dktX1_get_0 := by decide +kernel
theorem dX1_get_0 : decode cX1_get 0 = .ok (.iload_n 1, 1) := dk_27 (dk_at dksX1_get_0 0 rfl rfl)
theorem dX1_get_1 : decode cX1_get 1 = .ok (.invokestatic 140, 3) := dk_184 0 140 (dk_at dksX1_get_0 1 rfl rfl)
theorem dX1_get_4 : decode cX1_get 4 = .ok (.aload_n 0, 1) := dk_42 (dk_at dksX1_get_0 4 rfl rfl)
theorem dX1_get_5 : decode cX1_get 5 = .ok (.getfield 99, 3) := dk_180 0 99 (dk_at dksX1_get_0 5 rfl rfl)
theorem dX1_get_8 : decode cX1_get 8 = .ok (.iload_n 1, 1) := dk_27 (dk_at dksX1_get_0 8 rfl rfl)
theorem dX1_get_9 : decode cX1_get 9 = .ok (.invokevirtual 143, 3) := dk_182 0 143 (dk_at dksX1_get_0 9 rfl rfl)
theorem dX1_get_12 : decode cX1_get 12 = .ok (.ireturn, 1) := dk_172 (dk_at dksX1_get_0 12 rfl rfl)
/-! PageGarden.get(I)I -/
abbrev M_X1_get (z0 n0 : Nat) (s' : gS) : gM := (RX1, cX1_get, 2, (some FieldType.int), "get", [], 11, z0, n0, s'.2.1, s'.2.2)
abbrev W_X1_get (E : gE) (z0 n0 : Nat) (r : (Int32 ⊕ String)) (s' : gS) (pc : Nat) (L : List (Nat × gV)) (st : List gV) (s : gS) : Prop := gW E (M_X1_get z0 n0 s') (gQm E (M_X1_get z0 n0 s') (gOi r) s') pc L st s
noncomputable def f_X1_get_0 (κ : gK) (F : Nat)  (l0 : Option Nat) (l1 : Int32) (s : gS) : Option ((Int32 ⊕ String) × gS) :=
  gB3 (f_X3_requireKey κ F l1 s) fun v2 s1 =>
  gB1 (gfR s1 l0 0 0) fun v3 =>
  gB1 (gck s1 v3 7) fun _ =>
  gB2 (f_X3_get κ F v3 l1 s1) fun v5 s4 =>
  some ((.inl v5), s4)
set_option maxHeartbeats 4000000 in
theorem w_X1_get_0 {E : gE} {F z0 n0 : Nat} {r : (Int32 ⊕ String)} {s' : gS}   : ∀ (l0 : Option Nat) (l1 : Int32)  (s : gS), f_X1_get_0 (gk E) F  l0 l1 s = some (r, s') → W_X1_get E z0 n0 r s' 0 [(0, vR l0), (1, vI l1)] [] s := by
  intro l0 l1 s hB
  unfold f_X1_get_0 at hB
  refine gw_iload_n 1 rfl dX1_get_0 ?_
  rcases gB3_some hB with ⟨v2, s1, hv2, hB⟩ | ⟨Cv2, hv2, hzv2⟩
  rotate_left
  · subst hzv2
    exact gw_callS (y := yX3_requireKey) (lw_S q2553 q1993 q110 q1994) hdS_X3_requireKey (As := [vI l1]) (rest := []) (m_X3_requireKey _ _ _ _ hv2) (Nat.le_of_ble_eq_true rfl) (Nat.le_of_ble_eq_true rfl) rfl (Nat.le_of_ble_eq_true rfl) dX1_get_1 (gCont_x (gx_out rfl rfl rfl))
  refine gw_callS (y := yX3_requireKey) (lw_S q2553 q1993 q110 q1994) hdS_X3_requireKey (As := [vI l1]) (rest := []) (m_X3_requireKey _ _ _ _ hv2) (Nat.le_of_ble_eq_true rfl) (Nat.le_of_ble_eq_true rfl) rfl (Nat.le_of_ble_eq_true rfl) dX1_get_1 (gCont_v ?_)
  refine gw_aload_n 0 rfl dX1_get_4 ?_
  obtain ⟨v3, hv3, hB⟩ := gB1_some hB
  refine gw_getf (C := RX1) (T := TX1) (N := 4) (k := 0) gcl0 (by decide) in_X1 q1271 (gfR_spec hv3) dX1_get_5 ?_
  refine gw_iload_n 1 rfl dX1_get_8 ?_
  obtain ⟨u0, hu6, hB⟩ := gB1_some hB
  obtain ⟨v5, s4, hv5, hB⟩ := gB2_some hB
  refine gw_callV (y := yX3_get) (lw_V q2554 q2555 q2556 q110 q2557) hdV_X3_get gcl7 hu6 (As := [vI l1]) (rest := []) (m_X3_get _ _ _ _ _ hv5) (Nat.le_of_ble_eq_true rfl) (Nat.le_of_ble_eq_true rfl) rfl (Nat.le_of_ble_eq_true rfl) dX1_get_9 (gCont_i ?_)
  obtain ⟨rfl, rfl⟩ := Prod.mk.inj (Option.some.inj hB)
  exact gw_iret rfl rfl rfl dX1_get_12
noncomputable def f_X1_get (κ : gK) (F : Nat) (a0 : Option Nat) (a1 : Int32) (s : gS) : Option ((Int32 ⊕ String) × gS) := f_X1_get_0 κ F a0 a1 s
theorem m_X1_get {E : gE} {F : Nat} (a0 : Option Nat) (a1 : Int32) (s : gS) (r : (Int32 ⊕ String)) (s' : gS) (h : f_X1_get (gk E) F a0 a1 s = some (r, s')) : gCT E 11 yX1_get (ws_ yX1_get cX1_get 2 (some FieldType.int)) [vR a0, vI a1] s (gOi r) s' := by
  refine gCT_of2 (fun h => absurd h (by decide)) (plainFor_of_name (by decide)) (Nat.le_of_ble_eq_true rfl) ?_
  exact gw_sub [0, 1] rfl (w_X1_get_0 _ _ _ h)
def dkwX1_neededWithout_0 : List UInt8 := [27, 184, 0, 149, 42, 180, 0, 99, 27, 182, 0, 152, 42, 180, 0, 99, 27, 182, 0, 213, 172]
abbrev dktX1_neededWithout_0 : List UInt8 := dkwX1_neededWithout_0 ++ []
theorem dksX1_neededWithout_0 : cX1_neededWithout.data.toList.drop 0 = dktX1_neededWithout_0 := by decide +kernel
theorem dX1_neededWithout_0 : decode cX1_neededWithout 0 = .ok (.iload_n 1, 1) := dk_27 (dk_at dksX1_neededWithout_0 0 rfl rfl)
theorem dX1_neededWithout_1 : decode cX1_neededWithout 1 = .ok (.invokestatic 149, 3) := dk_184 0 149 (dk_at dksX1_neededWithout_0 1 rfl rfl)
theorem dX1_neededWithout_4 : decode cX1_neededWithout 4 = .ok (.aload_n 0, 1) := dk_42 (dk_at dksX1_neededWithout_0 4 rfl rfl)
theorem dX1_neededWithout_5 : decode cX1_neededWithout 5 = .ok (.getfield 99, 3) := dk_180 0 99 (dk_at dksX1_neededWithout_0 5 rfl rfl)
theorem dX1_neededWithout_8 : decode cX1_neededWithout 8 = .ok (.iload_n 1, 1) := dk_27 (dk_at dksX1_neededWithout_0 8 rfl rfl)
theorem dX1_neededWithout_9 : decode cX1_neededWithout 9 = .ok (.invokevirtual 152, 3) := dk_182 0 152 (dk_at dksX1_neededWithout_0 9 rfl rfl)
theorem dX1_neededWithout_12 : decode cX1_neededWithout 12 = .ok (.aload_n 0, 1) := dk_42 (dk_at dksX1_neededWithout_0 12 rfl rfl)
theorem dX1_neededWithout_13 : decode cX1_neededWithout 13 = .ok (.getfield 99, 3) := dk_180 0 99 (dk_at dksX1_neededWithout_0 13 rfl rfl)
theorem dX1_neededWithout_16 : decode cX1_neededWithout 16 = .ok (.iload_n 1, 1) := dk_27 (dk_at dksX1_neededWithout_0 16 rfl rfl)
theorem dX1_neededWithout_17 : decode cX1_neededWithout 17 = .ok (.invokevirtual 213, 3) := dk_182 0 213 (dk_at dksX1_neededWithout_0 17 rfl rfl)
theorem dX1_neededWithout_20 : decode cX1_neededWithout 20 = .ok (.ireturn, 1) := dk_172 (dk_at dksX1_neededWithout_0 20 rfl rfl)
/-! PageGarden.neededWithout(I)I -/
abbrev M_X1_neededWithout (z0 n0 : Nat) (s' : gS) : gM := (RX1, cX1_neededWithout, 2, (some FieldType.int), "neededWithout", [], 11, z0, n0, s'.2.1, s'.2.2)
abbrev W_X1_neededWithout (E : gE) (z0 n0 : Nat) (r : (Int32 ⊕ String)) (s' : gS) (pc : Nat) (L : List (Nat × gV)) (st : List gV) (s : gS) : Prop := gW E (M_X1_neededWithout z0 n0 s') (gQm E (M_X1_neededWithout z0 n0 s') (gOi r) s') pc L st s
noncomputable def f_X1_neededWithout_0 (κ : gK) (F : Nat)  (l0 : Option Nat) (l1 : Int32) (s : gS) : Option ((Int32 ⊕ String) × gS) :=
  gB3 (f_X3_requireReader κ F l1 s) fun v2 s1 =>
  gB1 (gfR s1 l0 0 0) fun v3 =>
  gB1 (gck s1 v3 7) fun _ =>
  gB3 (f_X3_requireOpen κ F v3 l1 s1) fun v5 s4 =>
  gB1 (gfR s4 l0 0 0) fun v7 =>
  gB1 (gck s4 v7 7) fun _ =>
  gB2 (f_X3_neededWithout κ F v7 l1 s4) fun v9 s8 =>
  some ((.inl v9), s8)
set_option maxHeartbeats 4000000 in
theorem w_X1_neededWithout_0 {E : gE} {F z0 n0 : Nat} {r : (Int32 ⊕ String)} {s' : gS}   : ∀ (l0 : Option Nat) (l1 : Int32)  (s : gS), f_X1_neededWithout_0 (gk E) F  l0 l1 s = some (r, s') → W_X1_neededWithout E z0 n0 r s' 0 [(0, vR l0), (1, vI l1)] [] s := by
  intro l0 l1 s hB
  unfold f_X1_neededWithout_0 at hB
  refine gw_iload_n 1 rfl dX1_neededWithout_0 ?_
  rcases gB3_some hB with ⟨v2, s1, hv2, hB⟩ | ⟨Cv2, hv2, hzv2⟩
  rotate_left
  · subst hzv2
    exact gw_callS (y := yX3_requireReader) (lw_S q2572 q2278 q110 q2279) hdS_X3_requireReader (As := [vI l1]) (rest := []) (m_X3_requireReader _ _ _ _ hv2) (Nat.le_of_ble_eq_true rfl) (Nat.le_of_ble_eq_true rfl) rfl (Nat.le_of_ble_eq_true rfl) dX1_neededWithout_1 (gCont_x (gx_out rfl rfl rfl))
  refine gw_callS (y := yX3_requireReader) (lw_S q2572 q2278 q110 q2279) hdS_X3_requireReader (As := [vI l1]) (rest := []) (m_X3_requireReader _ _ _ _ hv2) (Nat.le_of_ble_eq_true rfl) (Nat.le_of_ble_eq_true rfl) rfl (Nat.le_of_ble_eq_true rfl) dX1_neededWithout_1 (gCont_v ?_)
  refine gw_aload_n 0 rfl dX1_neededWithout_4 ?_
  obtain ⟨v3, hv3, hB⟩ := gB1_some hB
  refine gw_getf (C := RX1) (T := TX1) (N := 4) (k := 0) gcl0 (by decide) in_X1 q1271 (gfR_spec hv3) dX1_neededWithout_5 ?_
  refine gw_iload_n 1 rfl dX1_neededWithout_8 ?_
  obtain ⟨u0, hu6, hB⟩ := gB1_some hB
  rcases gB3_some hB with ⟨v5, s4, hv5, hB⟩ | ⟨Cv5, hv5, hzv5⟩
  rotate_left
  · subst hzv5
    exact gw_callV (y := yX3_requireOpen) (lw_V q2573 q2297 q2298 q110 q2299) hdV_X3_requireOpen gcl7 hu6 (As := [vI l1]) (rest := []) (m_X3_requireOpen _ _ _ _ _ hv5) (Nat.le_of_ble_eq_true rfl) (Nat.le_of_ble_eq_true rfl) rfl (Nat.le_of_ble_eq_true rfl) dX1_neededWithout_9 (gCont_x (gx_out rfl rfl rfl))
  refine gw_callV (y := yX3_requireOpen) (lw_V q2573 q2297 q2298 q110 q2299) hdV_X3_requireOpen gcl7 hu6 (As := [vI l1]) (rest := []) (m_X3_requireOpen _ _ _ _ _ hv5) (Nat.le_of_ble_eq_true rfl) (Nat.le_of_ble_eq_true rfl) rfl (Nat.le_of_ble_eq_true rfl) dX1_neededWithout_9 (gCont_v ?_)
  refine gw_aload_n 0 rfl dX1_neededWithout_12 ?_
  obtain ⟨v7, hv7, hB⟩ := gB1_some hB
  refine gw_getf (C := RX1) (T := TX1) (N := 4) (k := 0) gcl0 (by decide) in_X1 q1271 (gfR_spec hv7) dX1_neededWithout_13 ?_
  refine gw_iload_n 1 rfl dX1_neededWithout_16 ?_
  obtain ⟨u0, hu10, hB⟩ := gB1_some hB
  obtain ⟨v9, s8, hv9, hB⟩ := gB2_some hB
  refine gw_callV (y := yX3_neededWithout) (lw_V q2643 q1299 q1300 q110 q1301) hdV_X3_neededWithout gcl7 hu10 (As := [vI l1]) (rest := []) (m_X3_neededWithout _ _ _ _ _ hv9) (Nat.le_of_ble_eq_true rfl) (Nat.le_of_ble_eq_true rfl) rfl (Nat.le_of_ble_eq_true rfl) dX1_neededWithout_17 (gCont_i ?_)
  obtain ⟨rfl, rfl⟩ := Prod.mk.inj (Option.some.inj hB)
  exact gw_iret rfl rfl rfl dX1_neededWithout_20
noncomputable def f_X1_neededWithout (κ : gK) (F : Nat) (a0 : Option Nat) (a1 : Int32) (s : gS) : Option ((Int32 ⊕ String) × gS) := f_X1_neededWithout_0 κ F a0 a1 s
theorem m_X1_neededWithout {E : gE} {F : Nat} (a0 : Option Nat) (a1 : Int32) (s : gS) (r : (Int32 ⊕ String)) (s' : gS) (h : f_X1_neededWithout (gk E) F a0 a1 s = some (r, s')) : gCT E 11 yX1_neededWithout (ws_ yX1_neededWithout cX1_neededWithout 2 (some FieldType.int)) [vR a0, vI a1] s (gOi r) s' := by
  refine gCT_of2 (fun h => absurd h (by decide)) (plainFor_of_name (by decide)) (Nat.le_of_ble_eq_true rfl) ?_
  exact gw_sub [0, 1] rfl (w_X1_neededWithout_0 _ _ _ h)
def dkwX1_nextBed_0 : List UInt8 := [42, 180, 0, 99, 182, 0, 204, 172]
abbrev dktX1_nextBed_0 : List UInt8 := dkwX1_nextBed_0 ++ []
theorem dksX1_nextBed_0 : cX1_nextBed.data.toList.drop 0 = dktX1_nextBed_0 := by decide +kernel
theorem dX1_nextBed_0 : decode cX1_nextBed 0 = .ok (.aload_n 0, 1) := dk_42 (dk_at dksX1_nextBed_0 0 rfl rfl)
theorem dX1_nextBed_1 : decode cX1_nextBed 1 = .ok (.getfield 99, 3) := dk_180 0 99 (dk_at dksX1_nextBed_0 1 rfl rfl)
theorem dX1_nextBed_4 : decode cX1_nextBed 4 = .ok (.invokevirtual 204, 3) := dk_182 0 204 (dk_at dksX1_nextBed_0 4 rfl rfl)
theorem dX1_nextBed_7 : decode cX1_nextBed 7 = .ok (.ireturn, 1) := dk_172 (dk_at dksX1_nextBed_0 7 rfl rfl)
/-! PageGarden.nextBed()I -/
abbrev M_X1_nextBed (z0 n0 : Nat) (s' : gS) : gM := (RX1, cX1_nextBed, 1, (some FieldType.int), "nextBed", [], 6, z0, n0, s'.2.1, s'.2.2)
abbrev W_X1_nextBed (E : gE) (z0 n0 : Nat) (r : Int32) (s' : gS) (pc : Nat) (L : List (Nat × gV)) (st : List gV) (s : gS) : Prop := gW E (M_X1_nextBed z0 n0 s') (gQm E (M_X1_nextBed z0 n0 s') (.inl (some (vI r))) s') pc L st s
noncomputable def f_X1_nextBed_0 (κ : gK) (F : Nat)  (l0 : Option Nat) (s : gS) : Option (Int32 × gS) :=
  gB1 (gfR s l0 0 0) fun v1 =>
  gB1 (gck s v1 7) fun _ =>
  gB2 (f_X3_nextBed κ F v1  s) fun v3 s2 =>
  some (v3, s2)
set_option maxHeartbeats 4000000 in
theorem w_X1_nextBed_0 {E : gE} {F z0 n0 : Nat} {r : Int32} {s' : gS}   : ∀ (l0 : Option Nat)  (s : gS), f_X1_nextBed_0 (gk E) F  l0 s = some (r, s') → W_X1_nextBed E z0 n0 r s' 0 [(0, vR l0)] [] s := by
  intro l0 s hB
  unfold f_X1_nextBed_0 at hB
  refine gw_aload_n 0 rfl dX1_nextBed_0 ?_
  obtain ⟨v1, hv1, hB⟩ := gB1_some hB
  refine gw_getf (C := RX1) (T := TX1) (N := 4) (k := 0) gcl0 (by decide) in_X1 q1271 (gfR_spec hv1) dX1_nextBed_1 ?_
  obtain ⟨u0, hu4, hB⟩ := gB1_some hB
  obtain ⟨v3, s2, hv3, hB⟩ := gB2_some hB
  refine gw_callV (y := yX3_nextBed) (lw_V q1290 q1291 q1292 q110 q1293) hdV_X3_nextBed gcl7 hu4 (As := []) (rest := []) (m_X3_nextBed _ _ _ _ hv3) (Nat.le_of_ble_eq_true rfl) (Nat.le_of_ble_eq_true rfl) rfl (Nat.le_of_ble_eq_true rfl) dX1_nextBed_4 (gCont_i ?_)
  obtain ⟨rfl, rfl⟩ := Prod.mk.inj (Option.some.inj hB)
  exact gw_iret rfl rfl rfl dX1_nextBed_7
noncomputable def f_X1_nextBed (κ : gK) (F : Nat) (a0 : Option Nat) (s : gS) : Option (Int32 × gS) := f_X1_nextBed_0 κ F a0 s
theorem m_X1_nextBed {E : gE} {F : Nat} (a0 : Option Nat) (s : gS) (r : Int32) (s' : gS) (h : f_X1_nextBed (gk E) F a0 s = some (r, s')) : gCT E 6 yX1_nextBed (ws_ yX1_nextBed cX1_nextBed 1 (some FieldType.int)) [vR a0] s (.inl (some (vI r))) s' := by
  refine gCT_of2 (fun h => absurd h (by decide)) (plainFor_of_name (by decide)) (Nat.le_of_ble_eq_true rfl) ?_
  exact gw_sub [0] rfl (w_X1_nextBed_0 _ _ h)
def dkwX1_open_0 : List UInt8 := [42, 180, 0, 99, 182, 0, 123, 76, 42, 43, 43, 182, 0, 56, 182, 0, 126, 172]
abbrev dktX1_open_0 : List UInt8 := dkwX1_open_0 ++ []
theorem dksX1_open_0 : cX1_open.data.toList.drop 0 = dktX1_open_0 := by decide +kernel
theorem dX1_open_0 : decode cX1_open 0 = .ok (.aload_n 0, 1) := dk_42 (dk_at dksX1_open_0 0 rfl rfl)
theorem dX1_open_1 : decode cX1_open 1 = .ok (.getfield 99, 3) := dk_180 0 99 (dk_at dksX1_open_0 1 rfl rfl)
theorem dX1_open_4 : decode cX1_open 4 = .ok (.invokevirtual 123, 3) := dk_182 0 123 (dk_at dksX1_open_0 4 rfl rfl)
theorem dX1_open_7 : decode cX1_open 7 = .ok (.astore_n 1, 1) := dk_76 (dk_at dksX1_open_0 7 rfl rfl)
theorem dX1_open_8 : decode cX1_open 8 = .ok (.aload_n 0, 1) := dk_42 (dk_at dksX1_open_0 8 rfl rfl)
theorem dX1_open_9 : decode cX1_open 9 = .ok (.aload_n 1, 1) := dk_43 (dk_at dksX1_open_0 9 rfl rfl)
theorem dX1_open_10 : decode cX1_open 10 = .ok (.aload_n 1, 1) := dk_43 (dk_at dksX1_open_0 10 rfl rfl)
theorem dX1_open_11 : decode cX1_open 11 = .ok (.invokevirtual 56, 3) := dk_182 0 56 (dk_at dksX1_open_0 11 rfl rfl)
theorem dX1_open_14 : decode cX1_open 14 = .ok (.invokevirtual 126, 3) := dk_182 0 126 (dk_at dksX1_open_0 14 rfl rfl)
theorem dX1_open_17 : decode cX1_open 17 = .ok (.ireturn, 1) := dk_172 (dk_at dksX1_open_0 17 rfl rfl)
/-! PageGarden.open()I -/
abbrev M_X1_open (z0 n0 : Nat) (s' : gS) : gM := (RX1, cX1_open, 2, (some FieldType.int), "open", [], 11, z0, n0, s'.2.1, s'.2.2)
abbrev W_X1_open (E : gE) (z0 n0 : Nat) (r : (Int32 ⊕ String)) (s' : gS) (pc : Nat) (L : List (Nat × gV)) (st : List gV) (s : gS) : Prop := gW E (M_X1_open z0 n0 s') (gQm E (M_X1_open z0 n0 s') (gOi r) s') pc L st s
noncomputable def f_X1_open_0 (κ : gK) (F : Nat)  (l0 : Option Nat) (s : gS) : Option ((Int32 ⊕ String) × gS) :=
  gB1 (gfR s l0 0 0) fun v1 =>
  gB1 (gck s v1 7) fun _ =>
  gB2 (f_X3_copy κ F v1  s) fun v3 s2 =>
  gB1 (gck s2 v3 7) fun _ =>
  gB3 (f_X3_open κ F v3  s2) fun v6 s5 =>
  gB1 (gck s5 l0 0) fun _ =>
  gB2 (f_X1_become κ F l0 v3 v6 s5) fun v9 s8 =>
  some ((.inl v9), s8)
set_option maxHeartbeats 4000000 in
theorem w_X1_open_0 {E : gE} {F z0 n0 : Nat} {r : (Int32 ⊕ String)} {s' : gS}   : ∀ (l0 : Option Nat)  (s : gS), f_X1_open_0 (gk E) F  l0 s = some (r, s') → W_X1_open E z0 n0 r s' 0 [(0, vR l0)] [] s := by
  intro l0 s hB
  unfold f_X1_open_0 at hB
  refine gw_aload_n 0 rfl dX1_open_0 ?_
  obtain ⟨v1, hv1, hB⟩ := gB1_some hB
  refine gw_getf (C := RX1) (T := TX1) (N := 4) (k := 0) gcl0 (by decide) in_X1 q1271 (gfR_spec hv1) dX1_open_1 ?_
  obtain ⟨u0, hu4, hB⟩ := gB1_some hB
  obtain ⟨v3, s2, hv3, hB⟩ := gB2_some hB
  refine gw_callV (y := yX3_copy) (lw_V q1409 q1410 q1411 q110 q1412) hdV_X3_copy gcl7 hu4 (As := []) (rest := []) (m_X3_copy _ _ _ _ hv3) (Nat.le_of_ble_eq_true rfl) (Nat.le_of_ble_eq_true rfl) rfl (Nat.le_of_ble_eq_true rfl) dX1_open_4 (gCont_i ?_)
  refine gw_astore_n (L' := [(1, vR v3), (0, vR l0)]) (Nat.le_of_ble_eq_true rfl) rfl dX1_open_7 ?_
  refine gw_aload_n 1 rfl dX1_open_8 ?_
  refine gw_aload_n 0 rfl dX1_open_9 ?_
  refine gw_aload_n 0 rfl dX1_open_10 ?_
  obtain ⟨u0, hu7, hB⟩ := gB1_some hB
  rcases gB3_some hB with ⟨v6, s5, hv6, hB⟩ | ⟨Cv6, hv6, hzv6⟩
  rotate_left
  · subst hzv6
    exact gw_callV (y := yX3_open) (lw_V q2312 q2313 q2314 q110 q2315) hdV_X3_open gcl7 hu7 (As := []) (rest := [vR v3, vR l0]) (m_X3_open _ _ _ _ hv6) (Nat.le_of_ble_eq_true rfl) (Nat.le_of_ble_eq_true rfl) rfl (Nat.le_of_ble_eq_true rfl) dX1_open_11 (gCont_x (gx_out rfl rfl rfl))
  refine gw_callV (y := yX3_open) (lw_V q2312 q2313 q2314 q110 q2315) hdV_X3_open gcl7 hu7 (As := []) (rest := [vR v3, vR l0]) (m_X3_open _ _ _ _ hv6) (Nat.le_of_ble_eq_true rfl) (Nat.le_of_ble_eq_true rfl) rfl (Nat.le_of_ble_eq_true rfl) dX1_open_11 (gCont_i ?_)
  obtain ⟨u0, hu10, hB⟩ := gB1_some hB
  obtain ⟨v9, s8, hv9, hB⟩ := gB2_some hB
  refine gw_callV (y := yX1_become) (lw_V q2332 q2334 qs36 q108 q2335) hdV_X1_become gcl0 hu10 (As := [vR v3, vI v6]) (rest := []) (m_X1_become _ _ _ _ _ _ hv9) (Nat.le_of_ble_eq_true rfl) (Nat.le_of_ble_eq_true rfl) rfl (Nat.le_of_ble_eq_true rfl) dX1_open_14 (gCont_i ?_)
  obtain ⟨rfl, rfl⟩ := Prod.mk.inj (Option.some.inj hB)
  exact gw_iret rfl rfl rfl dX1_open_17
noncomputable def f_X1_open (κ : gK) (F : Nat) (a0 : Option Nat) (s : gS) : Option ((Int32 ⊕ String) × gS) := f_X1_open_0 κ F a0 s
theorem m_X1_open {E : gE} {F : Nat} (a0 : Option Nat) (s : gS) (r : (Int32 ⊕ String)) (s' : gS) (h : f_X1_open (gk E) F a0 s = some (r, s')) : gCT E 11 yX1_open (ws_ yX1_open cX1_open 2 (some FieldType.int)) [vR a0] s (gOi r) s' := by
  refine gCT_of2 (fun h => absurd h (by decide)) (plainFor_of_name (by decide)) (Nat.le_of_ble_eq_true rfl) ?_
  exact gw_sub [0] rfl (w_X1_open_0 _ _ h)
def dkwX1_put_0 : List UInt8 := [42, 180, 0, 99, 182, 0, 123, 78, 42, 45, 45, 27, 28, 182, 0, 39, 182, 0, 126, 172]
abbrev dktX1_put_0 : List UInt8 := dkwX1_put_0 ++ []
theorem dksX1_put_0 : cX1_put.data.toList.drop 0 = dktX1_put_0 := by decide +kernel
theorem dX1_put_0 : decode cX1_put 0 = .ok (.aload_n 0, 1) := dk_42 (dk_at dksX1_put_0 0 rfl rfl)
theorem dX1_put_1 : decode cX1_put 1 = .ok (.getfield 99, 3) := dk_180 0 99 (dk_at dksX1_put_0 1 rfl rfl)
theorem dX1_put_4 : decode cX1_put 4 = .ok (.invokevirtual 123, 3) := dk_182 0 123 (dk_at dksX1_put_0 4 rfl rfl)
theorem dX1_put_7 : decode cX1_put 7 = .ok (.astore_n 3, 1) := dk_78 (dk_at dksX1_put_0 7 rfl rfl)
theorem dX1_put_8 : decode cX1_put 8 = .ok (.aload_n 0, 1) := dk_42 (dk_at dksX1_put_0 8 rfl rfl)
theorem dX1_put_9 : decode cX1_put 9 = .ok (.aload_n 3, 1) := dk_45 (dk_at dksX1_put_0 9 rfl rfl)
theorem dX1_put_10 : decode cX1_put 10 = .ok (.aload_n 3, 1) := dk_45 (dk_at dksX1_put_0 10 rfl rfl)
theorem dX1_put_11 : decode cX1_put 11 = .ok (.iload_n 1, 1) := dk_27 (dk_at dksX1_put_0 11 rfl rfl)
theorem dX1_put_12 : decode cX1_put 12 = .ok (.iload_n 2, 1) := dk_28 (dk_at dksX1_put_0 12 rfl rfl)
theorem dX1_put_13 : decode cX1_put 13 = .ok (.invokevirtual 39, 3) := dk_182 0 39 (dk_at dksX1_put_0 13 rfl rfl)
theorem dX1_put_16 : decode cX1_put 16 = .ok (.invokevirtual 126, 3) := dk_182 0 126 (dk_at dksX1_put_0 16 rfl rfl)
theorem dX1_put_19 : decode cX1_put 19 = .ok (.ireturn, 1) := dk_172 (dk_at dksX1_put_0 19 rfl rfl)
/-! PageGarden.put(II)I -/
abbrev M_X1_put (z0 n0 : Nat) (s' : gS) : gM := (RX1, cX1_put, 4, (some FieldType.int), "put", [], 14, z0, n0, s'.2.1, s'.2.2)
abbrev W_X1_put (E : gE) (z0 n0 : Nat) (r : (Int32 ⊕ String)) (s' : gS) (pc : Nat) (L : List (Nat × gV)) (st : List gV) (s : gS) : Prop := gW E (M_X1_put z0 n0 s') (gQm E (M_X1_put z0 n0 s') (gOi r) s') pc L st s
noncomputable def f_X1_put_0 (κ : gK) (F : Nat)  (l0 : Option Nat) (l1 : Int32) (l2 : Int32) (s : gS) : Option ((Int32 ⊕ String) × gS) :=
  gB1 (gfR s l0 0 0) fun v1 =>
  gB1 (gck s v1 7) fun _ =>
  gB2 (f_X3_copy κ F v1  s) fun v3 s2 =>
  gB1 (gck s2 v3 7) fun _ =>
  gB3 (f_X3_put κ F v3 l1 l2 s2) fun v6 s5 =>
  gB1 (gck s5 l0 0) fun _ =>
  gB2 (f_X1_become κ F l0 v3 v6 s5) fun v9 s8 =>
  some ((.inl v9), s8)
set_option maxHeartbeats 4000000 in
theorem w_X1_put_0 {E : gE} {F z0 n0 : Nat} {r : (Int32 ⊕ String)} {s' : gS}   : ∀ (l0 : Option Nat) (l1 : Int32) (l2 : Int32)  (s : gS), f_X1_put_0 (gk E) F  l0 l1 l2 s = some (r, s') → W_X1_put E z0 n0 r s' 0 [(0, vR l0), (1, vI l1), (2, vI l2)] [] s := by
  intro l0 l1 l2 s hB
  unfold f_X1_put_0 at hB
  refine gw_aload_n 0 rfl dX1_put_0 ?_
  obtain ⟨v1, hv1, hB⟩ := gB1_some hB
  refine gw_getf (C := RX1) (T := TX1) (N := 4) (k := 0) gcl0 (by decide) in_X1 q1271 (gfR_spec hv1) dX1_put_1 ?_
  obtain ⟨u0, hu4, hB⟩ := gB1_some hB
  obtain ⟨v3, s2, hv3, hB⟩ := gB2_some hB
  refine gw_callV (y := yX3_copy) (lw_V q1409 q1410 q1411 q110 q1412) hdV_X3_copy gcl7 hu4 (As := []) (rest := []) (m_X3_copy _ _ _ _ hv3) (Nat.le_of_ble_eq_true rfl) (Nat.le_of_ble_eq_true rfl) rfl (Nat.le_of_ble_eq_true rfl) dX1_put_4 (gCont_i ?_)
  refine gw_astore_n (L' := [(3, vR v3), (0, vR l0), (1, vI l1), (2, vI l2)]) (Nat.le_of_ble_eq_true rfl) rfl dX1_put_7 ?_
  refine gw_aload_n 1 rfl dX1_put_8 ?_
  refine gw_aload_n 0 rfl dX1_put_9 ?_
  refine gw_aload_n 0 rfl dX1_put_10 ?_
  refine gw_iload_n 2 rfl dX1_put_11 ?_
  refine gw_iload_n 3 rfl dX1_put_12 ?_
  obtain ⟨u0, hu7, hB⟩ := gB1_some hB
  rcases gB3_some hB with ⟨v6, s5, hv6, hB⟩ | ⟨Cv6, hv6, hzv6⟩
  rotate_left
  · subst hzv6
    exact gw_callV (y := yX3_put) (lw_V q1988 q1989 q1990 q110 q1991) hdV_X3_put gcl7 hu7 (As := [vI l1, vI l2]) (rest := [vR v3, vR l0]) (m_X3_put _ _ _ _ _ _ hv6) (Nat.le_of_ble_eq_true rfl) (Nat.le_of_ble_eq_true rfl) rfl (Nat.le_of_ble_eq_true rfl) dX1_put_13 (gCont_x (gx_out rfl rfl rfl))
  refine gw_callV (y := yX3_put) (lw_V q1988 q1989 q1990 q110 q1991) hdV_X3_put gcl7 hu7 (As := [vI l1, vI l2]) (rest := [vR v3, vR l0]) (m_X3_put _ _ _ _ _ _ hv6) (Nat.le_of_ble_eq_true rfl) (Nat.le_of_ble_eq_true rfl) rfl (Nat.le_of_ble_eq_true rfl) dX1_put_13 (gCont_i ?_)
  obtain ⟨u0, hu10, hB⟩ := gB1_some hB
  obtain ⟨v9, s8, hv9, hB⟩ := gB2_some hB
  refine gw_callV (y := yX1_become) (lw_V q2332 q2334 qs36 q108 q2335) hdV_X1_become gcl0 hu10 (As := [vR v3, vI v6]) (rest := []) (m_X1_become _ _ _ _ _ _ hv9) (Nat.le_of_ble_eq_true rfl) (Nat.le_of_ble_eq_true rfl) rfl (Nat.le_of_ble_eq_true rfl) dX1_put_16 (gCont_i ?_)
  obtain ⟨rfl, rfl⟩ := Prod.mk.inj (Option.some.inj hB)
  exact gw_iret rfl rfl rfl dX1_put_19
noncomputable def f_X1_put (κ : gK) (F : Nat) (a0 : Option Nat) (a1 : Int32) (a2 : Int32) (s : gS) : Option ((Int32 ⊕ String) × gS) := f_X1_put_0 κ F a0 a1 a2 s
theorem m_X1_put {E : gE} {F : Nat} (a0 : Option Nat) (a1 : Int32) (a2 : Int32) (s : gS) (r : (Int32 ⊕ String)) (s' : gS) (h : f_X1_put (gk E) F a0 a1 a2 s = some (r, s')) : gCT E 14 yX1_put (ws_ yX1_put cX1_put 4 (some FieldType.int)) [vR a0, vI a1, vI a2] s (gOi r) s' := by
  refine gCT_of2 (fun h => absurd h (by decide)) (plainFor_of_name (by decide)) (Nat.le_of_ble_eq_true rfl) ?_
  exact gw_sub [0, 1, 2] rfl (w_X1_put_0 _ _ _ _ h)
def dkwX1_read_1 : List UInt8 := [180, 0, 155, 27, 50, 180, 0, 159, 28, 182, 0, 165, 172]
abbrev dktX1_read_1 : List UInt8 := dkwX1_read_1 ++ []
def dkwX1_read_0 : List UInt8 := [27, 184, 0, 149, 28, 184, 0, 140, 42, 180, 0, 99, 27, 182, 0, 152, 42, 180, 0, 99, 42, 180, 0, 99]
abbrev dktX1_read_0 : List UInt8 := dkwX1_read_0 ++ dktX1_read_1
theorem dksX1_read_0 : cX1_read.data.toList.drop 0 = dktX1_read_0 := by decide +kernel
theorem dksX1_read_1 : cX1_read.data.toList.drop 24 = dktX1_read_1 := dk_seg dksX1_read_0 24 rfl rfl
theorem dX1_read_0 : decode cX1_read 0 = .ok (.iload_n 1, 1) := dk_27 (dk_at dksX1_read_0 0 rfl rfl)
theorem dX1_read_1 : decode cX1_read 1 = .ok (.invokestatic 149, 3) := dk_184 0 149 (dk_at dksX1_read_0 1 rfl rfl)
theorem dX1_read_4 : decode cX1_read 4 = .ok (.iload_n 2, 1) := dk_28 (dk_at dksX1_read_0 4 rfl rfl)
theorem dX1_read_5 : decode cX1_read 5 = .ok (.invokestatic 140, 3) := dk_184 0 140 (dk_at dksX1_read_0 5 rfl rfl)
theorem dX1_read_8 : decode cX1_read 8 = .ok (.aload_n 0, 1) := dk_42 (dk_at dksX1_read_0 8 rfl rfl)
theorem dX1_read_9 : decode cX1_read 9 = .ok (.getfield 99, 3) := dk_180 0 99 (dk_at dksX1_read_0 9 rfl rfl)
theorem dX1_read_12 : decode cX1_read 12 = .ok (.iload_n 1, 1) := dk_27 (dk_at dksX1_read_0 12 rfl rfl)
theorem dX1_read_13 : decode cX1_read 13 = .ok (.invokevirtual 152, 3) := dk_182 0 152 (dk_at dksX1_read_0 13 rfl rfl)
theorem dX1_read_16 : decode cX1_read 16 = .ok (.aload_n 0, 1) := dk_42 (dk_at dksX1_read_0 16 rfl rfl)
theorem dX1_read_17 : decode cX1_read 17 = .ok (.getfield 99, 3) := dk_180 0 99 (dk_at dksX1_read_0 17 rfl rfl)
theorem dX1_read_20 : decode cX1_read 20 = .ok (.aload_n 0, 1) := dk_42 (dk_at dksX1_read_0 20 rfl rfl)
theorem dX1_read_21 : decode cX1_read 21 = .ok (.getfield 99, 3) := dk_180 0 99 (dk_at dksX1_read_0 21 rfl rfl)
theorem dX1_read_24 : decode cX1_read 24 = .ok (.getfield 155, 3) := dk_180 0 155 (dk_at dksX1_read_1 0 rfl rfl)
theorem dX1_read_27 : decode cX1_read 27 = .ok (.iload_n 1, 1) := dk_27 (dk_at dksX1_read_1 3 rfl rfl)
theorem dX1_read_28 : decode cX1_read 28 = .ok (.aaload, 1) := dk_50 (dk_at dksX1_read_1 4 rfl rfl)
theorem dX1_read_29 : decode cX1_read 29 = .ok (.getfield 159, 3) := dk_180 0 159 (dk_at dksX1_read_1 5 rfl rfl)
theorem dX1_read_32 : decode cX1_read 32 = .ok (.iload_n 2, 1) := dk_28 (dk_at dksX1_read_1 8 rfl rfl)
theorem dX1_read_33 : decode cX1_read 33 = .ok (.invokevirtual 165, 3) := dk_182 0 165 (dk_at dksX1_read_1 9 rfl rfl)
theorem dX1_read_36 : decode cX1_read 36 = .ok (.ireturn, 1) := dk_172 (dk_at dksX1_read_1 12 rfl rfl)
/-! PageGarden.read(II)I -/
abbrev M_X1_read (z0 n0 : Nat) (s' : gS) : gM := (RX1, cX1_read, 3, (some FieldType.int), "read", [], 11, z0, n0, s'.2.1, s'.2.2)
abbrev W_X1_read (E : gE) (z0 n0 : Nat) (r : (Int32 ⊕ String)) (s' : gS) (pc : Nat) (L : List (Nat × gV)) (st : List gV) (s : gS) : Prop := gW E (M_X1_read z0 n0 s') (gQm E (M_X1_read z0 n0 s') (gOi r) s') pc L st s
noncomputable def f_X1_read_0 (κ : gK) (F : Nat)  (l0 : Option Nat) (l1 : Int32) (l2 : Int32) (s : gS) : Option ((Int32 ⊕ String) × gS) :=
  gB3 (f_X3_requireReader κ F l1 s) fun v2 s1 =>
  gB3 (f_X3_requireKey κ F l2 s1) fun v4 s3 =>
  gB1 (gfR s3 l0 0 0) fun v5 =>
  gB1 (gck s3 v5 7) fun _ =>
  gB3 (f_X3_requireOpen κ F v5 l1 s3) fun v7 s6 =>
  gB1 (gfR s6 l0 0 0) fun v9 =>
  gB1 (gfR s6 l0 0 0) fun v10 =>
  gB1 (gfR s6 v10 7 5) fun v11 =>
  gB1 (gaR s6 v11 l1) fun v12 =>
  gB1 (gfI s6 v12 5 1) fun v13 =>
  gB1 (gck s6 v9 7) fun _ =>
  gB2 (f_X3_valueBy κ F v9 v13 l2 s6) fun v15 s14 =>
  some ((.inl v15), s14)
set_option maxHeartbeats 4000000 in
theorem w_X1_read_0 {E : gE} {F z0 n0 : Nat} {r : (Int32 ⊕ String)} {s' : gS}   : ∀ (l0 : Option Nat) (l1 : Int32) (l2 : Int32)  (s : gS), f_X1_read_0 (gk E) F  l0 l1 l2 s = some (r, s') → W_X1_read E z0 n0 r s' 0 [(0, vR l0), (1, vI l1), (2, vI l2)] [] s := by
  intro l0 l1 l2 s hB
  unfold f_X1_read_0 at hB
  refine gw_iload_n 1 rfl dX1_read_0 ?_
  rcases gB3_some hB with ⟨v2, s1, hv2, hB⟩ | ⟨Cv2, hv2, hzv2⟩
  rotate_left
  · subst hzv2
    exact gw_callS (y := yX3_requireReader) (lw_S q2572 q2278 q110 q2279) hdS_X3_requireReader (As := [vI l1]) (rest := []) (m_X3_requireReader _ _ _ _ hv2) (Nat.le_of_ble_eq_true rfl) (Nat.le_of_ble_eq_true rfl) rfl (Nat.le_of_ble_eq_true rfl) dX1_read_1 (gCont_x (gx_out rfl rfl rfl))
  refine gw_callS (y := yX3_requireReader) (lw_S q2572 q2278 q110 q2279) hdS_X3_requireReader (As := [vI l1]) (rest := []) (m_X3_requireReader _ _ _ _ hv2) (Nat.le_of_ble_eq_true rfl) (Nat.le_of_ble_eq_true rfl) rfl (Nat.le_of_ble_eq_true rfl) dX1_read_1 (gCont_v ?_)
  refine gw_iload_n 2 rfl dX1_read_4 ?_
  rcases gB3_some hB with ⟨v4, s3, hv4, hB⟩ | ⟨Cv4, hv4, hzv4⟩
  rotate_left
  · subst hzv4
    exact gw_callS (y := yX3_requireKey) (lw_S q2553 q1993 q110 q1994) hdS_X3_requireKey (As := [vI l2]) (rest := []) (m_X3_requireKey _ _ _ _ hv4) (Nat.le_of_ble_eq_true rfl) (Nat.le_of_ble_eq_true rfl) rfl (Nat.le_of_ble_eq_true rfl) dX1_read_5 (gCont_x (gx_out rfl rfl rfl))
  refine gw_callS (y := yX3_requireKey) (lw_S q2553 q1993 q110 q1994) hdS_X3_requireKey (As := [vI l2]) (rest := []) (m_X3_requireKey _ _ _ _ hv4) (Nat.le_of_ble_eq_true rfl) (Nat.le_of_ble_eq_true rfl) rfl (Nat.le_of_ble_eq_true rfl) dX1_read_5 (gCont_v ?_)
  refine gw_aload_n 0 rfl dX1_read_8 ?_
  obtain ⟨v5, hv5, hB⟩ := gB1_some hB
  refine gw_getf (C := RX1) (T := TX1) (N := 4) (k := 0) gcl0 (by decide) in_X1 q1271 (gfR_spec hv5) dX1_read_9 ?_
  refine gw_iload_n 1 rfl dX1_read_12 ?_
  obtain ⟨u0, hu8, hB⟩ := gB1_some hB
  rcases gB3_some hB with ⟨v7, s6, hv7, hB⟩ | ⟨Cv7, hv7, hzv7⟩
  rotate_left
  · subst hzv7
    exact gw_callV (y := yX3_requireOpen) (lw_V q2573 q2297 q2298 q110 q2299) hdV_X3_requireOpen gcl7 hu8 (As := [vI l1]) (rest := []) (m_X3_requireOpen _ _ _ _ _ hv7) (Nat.le_of_ble_eq_true rfl) (Nat.le_of_ble_eq_true rfl) rfl (Nat.le_of_ble_eq_true rfl) dX1_read_13 (gCont_x (gx_out rfl rfl rfl))
  refine gw_callV (y := yX3_requireOpen) (lw_V q2573 q2297 q2298 q110 q2299) hdV_X3_requireOpen gcl7 hu8 (As := [vI l1]) (rest := []) (m_X3_requireOpen _ _ _ _ _ hv7) (Nat.le_of_ble_eq_true rfl) (Nat.le_of_ble_eq_true rfl) rfl (Nat.le_of_ble_eq_true rfl) dX1_read_13 (gCont_v ?_)
  refine gw_aload_n 0 rfl dX1_read_16 ?_
  obtain ⟨v9, hv9, hB⟩ := gB1_some hB
  refine gw_getf (C := RX1) (T := TX1) (N := 4) (k := 0) gcl0 (by decide) in_X1 q1271 (gfR_spec hv9) dX1_read_17 ?_
  refine gw_aload_n 0 rfl dX1_read_20 ?_
  obtain ⟨v10, hv10, hB⟩ := gB1_some hB
  refine gw_getf (C := RX1) (T := TX1) (N := 4) (k := 0) gcl0 (by decide) in_X1 q1271 (gfR_spec hv10) dX1_read_21 ?_
  obtain ⟨v11, hv11, hB⟩ := gB1_some hB
  refine gw_getfN (C := RX3) (T := TX3) (N := 9) (k := 5) gcl7 (by decide) in_X3 q288 (gfR_spec hv11) dX1_read_24 ?_
  refine gw_iload_n 1 rfl dX1_read_27 ?_
  obtain ⟨v12, hv12, hB⟩ := gB1_some hB
  refine gw_aaload hv12 dX1_read_28 ?_
  obtain ⟨v13, hv13, hB⟩ := gB1_some hB
  refine gw_getfN (C := RX10) (T := TX10) (N := 2) (k := 1) gcl5 (by decide) in_X10 q2325 (gfI_spec hv13) dX1_read_29 ?_
  refine gw_iload_n 2 rfl dX1_read_32 ?_
  obtain ⟨u0, hu16, hB⟩ := gB1_some hB
  obtain ⟨v15, s14, hv15, hB⟩ := gB2_some hB
  refine gw_callV (y := yX3_valueBy) (lw_V q2574 q2106 q2107 q110 q2108) hdV_X3_valueBy gcl7 hu16 (As := [vI v13, vI l2]) (rest := []) (m_X3_valueBy _ _ _ _ _ _ hv15) (Nat.le_of_ble_eq_true rfl) (Nat.le_of_ble_eq_true rfl) rfl (Nat.le_of_ble_eq_true rfl) dX1_read_33 (gCont_i ?_)
  obtain ⟨rfl, rfl⟩ := Prod.mk.inj (Option.some.inj hB)
  exact gw_iret rfl rfl rfl dX1_read_36
noncomputable def f_X1_read (κ : gK) (F : Nat) (a0 : Option Nat) (a1 : Int32) (a2 : Int32) (s : gS) : Option ((Int32 ⊕ String) × gS) := f_X1_read_0 κ F a0 a1 a2 s
theorem m_X1_read {E : gE} {F : Nat} (a0 : Option Nat) (a1 : Int32) (a2 : Int32) (s : gS) (r : (Int32 ⊕ String)) (s' : gS) (h : f_X1_read (gk E) F a0 a1 a2 s = some (r, s')) : gCT E 11 yX1_read (ws_ yX1_read cX1_read 3 (some FieldType.int)) [vR a0, vI a1, vI a2] s (gOi r) s' := by
  refine gCT_of2 (fun h => absurd h (by decide)) (plainFor_of_name (by decide)) (Nat.le_of_ble_eq_true rfl) ?_
  exact gw_sub [0, 1, 2] rfl (w_X1_read_0 _ _ _ _ h)
def dkwX1_reader_0 : List UInt8 := [27, 184, 0, 149, 28, 6, 184, 0, 176, 42, 180, 0, 99, 27, 28, 182, 0, 188, 172]
abbrev dktX1_reader_0 : List UInt8 := dkwX1_reader_0 ++ []
theorem dksX1_reader_0 : cX1_reader.data.toList.drop 0 = dktX1_reader_0 := by decide +kernel
theorem dX1_reader_0 : decode cX1_reader 0 = .ok (.iload_n 1, 1) := dk_27 (dk_at dksX1_reader_0 0 rfl rfl)
theorem dX1_reader_1 : decode cX1_reader 1 = .ok (.invokestatic 149, 3) := dk_184 0 149 (dk_at dksX1_reader_0 1 rfl rfl)
theorem dX1_reader_4 : decode cX1_reader 4 = .ok (.iload_n 2, 1) := dk_28 (dk_at dksX1_reader_0 4 rfl rfl)
theorem dX1_reader_5 : decode cX1_reader 5 = .ok (.iconst 3, 1) := dk_6 (dk_at dksX1_reader_0 5 rfl rfl)
theorem dX1_reader_6 : decode cX1_reader 6 = .ok (.invokestatic 176, 3) := dk_184 0 176 (dk_at dksX1_reader_0 6 rfl rfl)
theorem dX1_reader_9 : decode cX1_reader 9 = .ok (.aload_n 0, 1) := dk_42 (dk_at dksX1_reader_0 9 rfl rfl)
theorem dX1_reader_10 : decode cX1_reader 10 = .ok (.getfield 99, 3) := dk_180 0 99 (dk_at dksX1_reader_0 10 rfl rfl)
theorem dX1_reader_13 : decode cX1_reader 13 = .ok (.iload_n 1, 1) := dk_27 (dk_at dksX1_reader_0 13 rfl rfl)
theorem dX1_reader_14 : decode cX1_reader 14 = .ok (.iload_n 2, 1) := dk_28 (dk_at dksX1_reader_0 14 rfl rfl)
theorem dX1_reader_15 : decode cX1_reader 15 = .ok (.invokevirtual 188, 3) := dk_182 0 188 (dk_at dksX1_reader_0 15 rfl rfl)
theorem dX1_reader_18 : decode cX1_reader 18 = .ok (.ireturn, 1) := dk_172 (dk_at dksX1_reader_0 18 rfl rfl)
/-! PageGarden.reader(II)I -/
abbrev M_X1_reader (z0 n0 : Nat) (s' : gS) : gM := (RX1, cX1_reader, 3, (some FieldType.int), "reader", [], 111, z0, n0, s'.2.1, s'.2.2)
abbrev W_X1_reader (E : gE) (z0 n0 : Nat) (r : (Int32 ⊕ String)) (s' : gS) (pc : Nat) (L : List (Nat × gV)) (st : List gV) (s : gS) : Prop := gW E (M_X1_reader z0 n0 s') (gQm E (M_X1_reader z0 n0 s') (gOi r) s') pc L st s
noncomputable def f_X1_reader_0 (κ : gK) (F : Nat)  (l0 : Option Nat) (l1 : Int32) (l2 : Int32) (s : gS) : Option ((Int32 ⊕ String) × gS) :=
  gB3 (f_X3_requireReader κ F l1 s) fun v2 s1 =>
  gB3 (f_X1_requireWhat κ F l2 (3 : Int32) s1) fun v4 s3 =>
  gB1 (gfR s3 l0 0 0) fun v5 =>
  gB1 (gck s3 v5 7) fun _ =>
  gB2 (f_X3_readerValue κ F v5 l1 l2 s3) fun v7 s6 =>
  some ((.inl v7), s6)
set_option maxHeartbeats 4000000 in
theorem w_X1_reader_0 {E : gE} {F z0 n0 : Nat} {r : (Int32 ⊕ String)} {s' : gS}   : ∀ (l0 : Option Nat) (l1 : Int32) (l2 : Int32)  (s : gS), f_X1_reader_0 (gk E) F  l0 l1 l2 s = some (r, s') → W_X1_reader E z0 n0 r s' 0 [(0, vR l0), (1, vI l1), (2, vI l2)] [] s := by
  intro l0 l1 l2 s hB
  unfold f_X1_reader_0 at hB
  refine gw_iload_n 1 rfl dX1_reader_0 ?_
  rcases gB3_some hB with ⟨v2, s1, hv2, hB⟩ | ⟨Cv2, hv2, hzv2⟩
  rotate_left
  · subst hzv2
    exact gw_callS (y := yX3_requireReader) (lw_S q2572 q2278 q110 q2279) hdS_X3_requireReader (As := [vI l1]) (rest := []) (m_X3_requireReader _ _ _ _ hv2) (Nat.le_of_ble_eq_true rfl) (Nat.le_of_ble_eq_true rfl) rfl (Nat.le_of_ble_eq_true rfl) dX1_reader_1 (gCont_x (gx_out rfl rfl rfl))
  refine gw_callS (y := yX3_requireReader) (lw_S q2572 q2278 q110 q2279) hdS_X3_requireReader (As := [vI l1]) (rest := []) (m_X3_requireReader _ _ _ _ hv2) (Nat.le_of_ble_eq_true rfl) (Nat.le_of_ble_eq_true rfl) rfl (Nat.le_of_ble_eq_true rfl) dX1_reader_1 (gCont_v ?_)
  refine gw_iload_n 2 rfl dX1_reader_4 ?_
  refine gw_iconst (v := (3 : Int32)) (by decide) dX1_reader_5 ?_
  rcases gB3_some hB with ⟨v4, s3, hv4, hB⟩ | ⟨Cv4, hv4, hzv4⟩
  rotate_left
  · subst hzv4
    exact gw_callS (y := yX1_requireWhat) (lw_S q2585 q2586 q108 q2587) hdS_X1_requireWhat (As := [vI l2, vI (3 : Int32)]) (rest := []) (m_X1_requireWhat _ _ _ _ _ hv4) (Nat.le_of_ble_eq_true rfl) (Nat.le_of_ble_eq_true rfl) rfl (Nat.le_of_ble_eq_true rfl) dX1_reader_6 (gCont_x (gx_out rfl rfl rfl))
  refine gw_callS (y := yX1_requireWhat) (lw_S q2585 q2586 q108 q2587) hdS_X1_requireWhat (As := [vI l2, vI (3 : Int32)]) (rest := []) (m_X1_requireWhat _ _ _ _ _ hv4) (Nat.le_of_ble_eq_true rfl) (Nat.le_of_ble_eq_true rfl) rfl (Nat.le_of_ble_eq_true rfl) dX1_reader_6 (gCont_v ?_)
  refine gw_aload_n 0 rfl dX1_reader_9 ?_
  obtain ⟨v5, hv5, hB⟩ := gB1_some hB
  refine gw_getf (C := RX1) (T := TX1) (N := 4) (k := 0) gcl0 (by decide) in_X1 q1271 (gfR_spec hv5) dX1_reader_10 ?_
  refine gw_iload_n 1 rfl dX1_reader_13 ?_
  refine gw_iload_n 2 rfl dX1_reader_14 ?_
  obtain ⟨u0, hu8, hB⟩ := gB1_some hB
  obtain ⟨v7, s6, hv7, hB⟩ := gB2_some hB
  refine gw_callVW (y := yX3_readerValue) (lw_VW q2430 q2431 q2432 q110 q2433) hdV_X3_readerValue gcl7 hu8 (As := [vI l1, vI l2]) (rest := []) (m_X3_readerValue _ _ _ _ _ _ hv7) (Nat.le_of_ble_eq_true rfl) (Nat.le_of_ble_eq_true rfl) rfl (Nat.le_of_ble_eq_true rfl) dX1_reader_15 (gCont_i ?_)
  obtain ⟨rfl, rfl⟩ := Prod.mk.inj (Option.some.inj hB)
  exact gw_iret rfl rfl rfl dX1_reader_18
noncomputable def f_X1_reader (κ : gK) (F : Nat) (a0 : Option Nat) (a1 : Int32) (a2 : Int32) (s : gS) : Option ((Int32 ⊕ String) × gS) := f_X1_reader_0 κ F a0 a1 a2 s
theorem m_X1_reader {E : gE} {F : Nat} (a0 : Option Nat) (a1 : Int32) (a2 : Int32) (s : gS) (r : (Int32 ⊕ String)) (s' : gS) (h : f_X1_reader (gk E) F a0 a1 a2 s = some (r, s')) : gCT E 111 yX1_reader (ws_ yX1_reader cX1_reader 3 (some FieldType.int)) [vR a0, vI a1, vI a2] s (gOi r) s' := by
  refine gCT_of2 (fun h => absurd h (by decide)) (plainFor_of_name (by decide)) (Nat.le_of_ble_eq_true rfl) ?_
  exact gw_sub [0, 1, 2] rfl (w_X1_reader_0 _ _ _ _ h)
def dkwX1_reason_0 : List UInt8 := [27, 184, 0, 140, 42, 180, 0, 99, 27, 182, 0, 210, 172]
abbrev dktX1_reason_0 : List UInt8 := dkwX1_reason_0 ++ []
theorem dksX1_reason_0 : cX1_reason.data.toList.drop 0 = dktX1_reason_0 := by decide +kernel
theorem dX1_reason_0 : decode cX1_reason 0 = .ok (.iload_n 1, 1) := dk_27 (dk_at dksX1_reason_0 0 rfl rfl)
theorem dX1_reason_1 : decode cX1_reason 1 = .ok (.invokestatic 140, 3) := dk_184 0 140 (dk_at dksX1_reason_0 1 rfl rfl)
theorem dX1_reason_4 : decode cX1_reason 4 = .ok (.aload_n 0, 1) := dk_42 (dk_at dksX1_reason_0 4 rfl rfl)
theorem dX1_reason_5 : decode cX1_reason 5 = .ok (.getfield 99, 3) := dk_180 0 99 (dk_at dksX1_reason_0 5 rfl rfl)
theorem dX1_reason_8 : decode cX1_reason 8 = .ok (.iload_n 1, 1) := dk_27 (dk_at dksX1_reason_0 8 rfl rfl)
theorem dX1_reason_9 : decode cX1_reason 9 = .ok (.invokevirtual 210, 3) := dk_182 0 210 (dk_at dksX1_reason_0 9 rfl rfl)
theorem dX1_reason_12 : decode cX1_reason 12 = .ok (.ireturn, 1) := dk_172 (dk_at dksX1_reason_0 12 rfl rfl)
/-! PageGarden.reason(I)I -/
abbrev M_X1_reason (z0 n0 : Nat) (s' : gS) : gM := (RX1, cX1_reason, 2, (some FieldType.int), "reason", [], 13, z0, n0, s'.2.1, s'.2.2)
abbrev W_X1_reason (E : gE) (z0 n0 : Nat) (r : (Int32 ⊕ String)) (s' : gS) (pc : Nat) (L : List (Nat × gV)) (st : List gV) (s : gS) : Prop := gW E (M_X1_reason z0 n0 s') (gQm E (M_X1_reason z0 n0 s') (gOi r) s') pc L st s
noncomputable def f_X1_reason_0 (κ : gK) (F : Nat)  (l0 : Option Nat) (l1 : Int32) (s : gS) : Option ((Int32 ⊕ String) × gS) :=
  gB3 (f_X3_requireKey κ F l1 s) fun v2 s1 =>
  gB1 (gfR s1 l0 0 0) fun v3 =>
  gB1 (gck s1 v3 7) fun _ =>
  gB3 (f_X3_reason κ F v3 l1 s1) fun v5 s4 =>
  some ((.inl v5), s4)
set_option maxHeartbeats 4000000 in
theorem w_X1_reason_0 {E : gE} {F z0 n0 : Nat} {r : (Int32 ⊕ String)} {s' : gS}   : ∀ (l0 : Option Nat) (l1 : Int32)  (s : gS), f_X1_reason_0 (gk E) F  l0 l1 s = some (r, s') → W_X1_reason E z0 n0 r s' 0 [(0, vR l0), (1, vI l1)] [] s := by
  intro l0 l1 s hB
  unfold f_X1_reason_0 at hB
  refine gw_iload_n 1 rfl dX1_reason_0 ?_
  rcases gB3_some hB with ⟨v2, s1, hv2, hB⟩ | ⟨Cv2, hv2, hzv2⟩
  rotate_left
  · subst hzv2
    exact gw_callS (y := yX3_requireKey) (lw_S q2553 q1993 q110 q1994) hdS_X3_requireKey (As := [vI l1]) (rest := []) (m_X3_requireKey _ _ _ _ hv2) (Nat.le_of_ble_eq_true rfl) (Nat.le_of_ble_eq_true rfl) rfl (Nat.le_of_ble_eq_true rfl) dX1_reason_1 (gCont_x (gx_out rfl rfl rfl))
  refine gw_callS (y := yX3_requireKey) (lw_S q2553 q1993 q110 q1994) hdS_X3_requireKey (As := [vI l1]) (rest := []) (m_X3_requireKey _ _ _ _ hv2) (Nat.le_of_ble_eq_true rfl) (Nat.le_of_ble_eq_true rfl) rfl (Nat.le_of_ble_eq_true rfl) dX1_reason_1 (gCont_v ?_)
  refine gw_aload_n 0 rfl dX1_reason_4 ?_
  obtain ⟨v3, hv3, hB⟩ := gB1_some hB
  refine gw_getf (C := RX1) (T := TX1) (N := 4) (k := 0) gcl0 (by decide) in_X1 q1271 (gfR_spec hv3) dX1_reason_5 ?_
  refine gw_iload_n 1 rfl dX1_reason_8 ?_
  obtain ⟨u0, hu6, hB⟩ := gB1_some hB
  rcases gB3_some hB with ⟨v5, s4, hv5, hB⟩ | ⟨Cv5, hv5, hzv5⟩
  rotate_left
  · subst hzv5
    exact gw_callV (y := yX3_reason) (lw_V q2635 q2034 q2035 q110 q2036) hdV_X3_reason gcl7 hu6 (As := [vI l1]) (rest := []) (m_X3_reason _ _ _ _ _ hv5) (Nat.le_of_ble_eq_true rfl) (Nat.le_of_ble_eq_true rfl) rfl (Nat.le_of_ble_eq_true rfl) dX1_reason_9 (gCont_x (gx_out rfl rfl rfl))
  refine gw_callV (y := yX3_reason) (lw_V q2635 q2034 q2035 q110 q2036) hdV_X3_reason gcl7 hu6 (As := [vI l1]) (rest := []) (m_X3_reason _ _ _ _ _ hv5) (Nat.le_of_ble_eq_true rfl) (Nat.le_of_ble_eq_true rfl) rfl (Nat.le_of_ble_eq_true rfl) dX1_reason_9 (gCont_i ?_)
  obtain ⟨rfl, rfl⟩ := Prod.mk.inj (Option.some.inj hB)
  exact gw_iret rfl rfl rfl dX1_reason_12
noncomputable def f_X1_reason (κ : gK) (F : Nat) (a0 : Option Nat) (a1 : Int32) (s : gS) : Option ((Int32 ⊕ String) × gS) := f_X1_reason_0 κ F a0 a1 s
theorem m_X1_reason {E : gE} {F : Nat} (a0 : Option Nat) (a1 : Int32) (s : gS) (r : (Int32 ⊕ String)) (s' : gS) (h : f_X1_reason (gk E) F a0 a1 s = some (r, s')) : gCT E 13 yX1_reason (ws_ yX1_reason cX1_reason 2 (some FieldType.int)) [vR a0, vI a1] s (gOi r) s' := by
  refine gCT_of2 (fun h => absurd h (by decide)) (plainFor_of_name (by decide)) (Nat.le_of_ble_eq_true rfl) ?_
  exact gw_sub [0, 1] rfl (w_X1_reason_0 _ _ _ h)
def dkwX1_remove_0 : List UInt8 := [42, 180, 0, 99, 182, 0, 123, 77, 42, 44, 44, 27, 182, 0, 44, 182, 0, 126, 172]
abbrev dktX1_remove_0 : List UInt8 := dkwX1_remove_0 ++ []
theorem dksX1_remove_0 : cX1_remove.data.toList.drop 0 = dktX1_remove_0 := by decide +kernel
theorem dX1_remove_0 : decode cX1_remove 0 = .ok (.aload_n 0, 1) := dk_42 (dk_at dksX1_remove_0 0 rfl rfl)
theorem dX1_remove_1 : decode cX1_remove 1 = .ok (.getfield 99, 3) := dk_180 0 99 (dk_at dksX1_remove_0 1 rfl rfl)
theorem dX1_remove_4 : decode cX1_remove 4 = .ok (.invokevirtual 123, 3) := dk_182 0 123 (dk_at dksX1_remove_0 4 rfl rfl)
theorem dX1_remove_7 : decode cX1_remove 7 = .ok (.astore_n 2, 1) := dk_77 (dk_at dksX1_remove_0 7 rfl rfl)
theorem dX1_remove_8 : decode cX1_remove 8 = .ok (.aload_n 0, 1) := dk_42 (dk_at dksX1_remove_0 8 rfl rfl)
theorem dX1_remove_9 : decode cX1_remove 9 = .ok (.aload_n 2, 1) := dk_44 (dk_at dksX1_remove_0 9 rfl rfl)
theorem dX1_remove_10 : decode cX1_remove 10 = .ok (.aload_n 2, 1) := dk_44 (dk_at dksX1_remove_0 10 rfl rfl)
theorem dX1_remove_11 : decode cX1_remove 11 = .ok (.iload_n 1, 1) := dk_27 (dk_at dksX1_remove_0 11 rfl rfl)
theorem dX1_remove_12 : decode cX1_remove 12 = .ok (.invokevirtual 44, 3) := dk_182 0 44 (dk_at dksX1_remove_0 12 rfl rfl)
theorem dX1_remove_15 : decode cX1_remove 15 = .ok (.invokevirtual 126, 3) := dk_182 0 126 (dk_at dksX1_remove_0 15 rfl rfl)
theorem dX1_remove_18 : decode cX1_remove 18 = .ok (.ireturn, 1) := dk_172 (dk_at dksX1_remove_0 18 rfl rfl)
/-! PageGarden.remove(I)I -/
abbrev M_X1_remove (z0 n0 : Nat) (s' : gS) : gM := (RX1, cX1_remove, 3, (some FieldType.int), "remove", [], 13, z0, n0, s'.2.1, s'.2.2)
abbrev W_X1_remove (E : gE) (z0 n0 : Nat) (r : (Int32 ⊕ String)) (s' : gS) (pc : Nat) (L : List (Nat × gV)) (st : List gV) (s : gS) : Prop := gW E (M_X1_remove z0 n0 s') (gQm E (M_X1_remove z0 n0 s') (gOi r) s') pc L st s
noncomputable def f_X1_remove_0 (κ : gK) (F : Nat)  (l0 : Option Nat) (l1 : Int32) (s : gS) : Option ((Int32 ⊕ String) × gS) :=
  gB1 (gfR s l0 0 0) fun v1 =>
  gB1 (gck s v1 7) fun _ =>
  gB2 (f_X3_copy κ F v1  s) fun v3 s2 =>
  gB1 (gck s2 v3 7) fun _ =>
  gB3 (f_X3_remove κ F v3 l1 s2) fun v6 s5 =>
  gB1 (gck s5 l0 0) fun _ =>
  gB2 (f_X1_become κ F l0 v3 v6 s5) fun v9 s8 =>
  some ((.inl v9), s8)
set_option maxHeartbeats 4000000 in
theorem w_X1_remove_0 {E : gE} {F z0 n0 : Nat} {r : (Int32 ⊕ String)} {s' : gS}   : ∀ (l0 : Option Nat) (l1 : Int32)  (s : gS), f_X1_remove_0 (gk E) F  l0 l1 s = some (r, s') → W_X1_remove E z0 n0 r s' 0 [(0, vR l0), (1, vI l1)] [] s := by
  intro l0 l1 s hB
  unfold f_X1_remove_0 at hB
  refine gw_aload_n 0 rfl dX1_remove_0 ?_
  obtain ⟨v1, hv1, hB⟩ := gB1_some hB
  refine gw_getf (C := RX1) (T := TX1) (N := 4) (k := 0) gcl0 (by decide) in_X1 q1271 (gfR_spec hv1) dX1_remove_1 ?_
  obtain ⟨u0, hu4, hB⟩ := gB1_some hB
  obtain ⟨v3, s2, hv3, hB⟩ := gB2_some hB
  refine gw_callV (y := yX3_copy) (lw_V q1409 q1410 q1411 q110 q1412) hdV_X3_copy gcl7 hu4 (As := []) (rest := []) (m_X3_copy _ _ _ _ hv3) (Nat.le_of_ble_eq_true rfl) (Nat.le_of_ble_eq_true rfl) rfl (Nat.le_of_ble_eq_true rfl) dX1_remove_4 (gCont_i ?_)
  refine gw_astore_n (L' := [(2, vR v3), (0, vR l0), (1, vI l1)]) (Nat.le_of_ble_eq_true rfl) rfl dX1_remove_7 ?_
  refine gw_aload_n 1 rfl dX1_remove_8 ?_
  refine gw_aload_n 0 rfl dX1_remove_9 ?_
  refine gw_aload_n 0 rfl dX1_remove_10 ?_
  refine gw_iload_n 2 rfl dX1_remove_11 ?_
  obtain ⟨u0, hu7, hB⟩ := gB1_some hB
  rcases gB3_some hB with ⟨v6, s5, hv6, hB⟩ | ⟨Cv6, hv6, hzv6⟩
  rotate_left
  · subst hzv6
    exact gw_callV (y := yX3_remove) (lw_V q2220 q2221 q2222 q110 q2223) hdV_X3_remove gcl7 hu7 (As := [vI l1]) (rest := [vR v3, vR l0]) (m_X3_remove _ _ _ _ _ hv6) (Nat.le_of_ble_eq_true rfl) (Nat.le_of_ble_eq_true rfl) rfl (Nat.le_of_ble_eq_true rfl) dX1_remove_12 (gCont_x (gx_out rfl rfl rfl))
  refine gw_callV (y := yX3_remove) (lw_V q2220 q2221 q2222 q110 q2223) hdV_X3_remove gcl7 hu7 (As := [vI l1]) (rest := [vR v3, vR l0]) (m_X3_remove _ _ _ _ _ hv6) (Nat.le_of_ble_eq_true rfl) (Nat.le_of_ble_eq_true rfl) rfl (Nat.le_of_ble_eq_true rfl) dX1_remove_12 (gCont_i ?_)
  obtain ⟨u0, hu10, hB⟩ := gB1_some hB
  obtain ⟨v9, s8, hv9, hB⟩ := gB2_some hB
  refine gw_callV (y := yX1_become) (lw_V q2332 q2334 qs36 q108 q2335) hdV_X1_become gcl0 hu10 (As := [vR v3, vI v6]) (rest := []) (m_X1_become _ _ _ _ _ _ hv9) (Nat.le_of_ble_eq_true rfl) (Nat.le_of_ble_eq_true rfl) rfl (Nat.le_of_ble_eq_true rfl) dX1_remove_15 (gCont_i ?_)
  obtain ⟨rfl, rfl⟩ := Prod.mk.inj (Option.some.inj hB)
  exact gw_iret rfl rfl rfl dX1_remove_18
noncomputable def f_X1_remove (κ : gK) (F : Nat) (a0 : Option Nat) (a1 : Int32) (s : gS) : Option ((Int32 ⊕ String) × gS) := f_X1_remove_0 κ F a0 a1 s
theorem m_X1_remove {E : gE} {F : Nat} (a0 : Option Nat) (a1 : Int32) (s : gS) (r : (Int32 ⊕ String)) (s' : gS) (h : f_X1_remove (gk E) F a0 a1 s = some (r, s')) : gCT E 13 yX1_remove (ws_ yX1_remove cX1_remove 3 (some FieldType.int)) [vR a0, vI a1] s (gOi r) s' := by
  refine gCT_of2 (fun h => absurd h (by decide)) (plainFor_of_name (by decide)) (Nat.le_of_ble_eq_true rfl) ?_
  exact gw_sub [0, 1] rfl (w_X1_remove_0 _ _ _ h)
def dkwX1_root_1 : List UInt8 := [182, 0, 185, 172]
abbrev dktX1_root_1 : List UInt8 := dkwX1_root_1 ++ []
def dkwX1_root_0 : List UInt8 := [27, 133, 9, 10, 184, 0, 130, 18, 183, 184, 0, 173, 28, 7, 184, 0, 176, 42, 180, 0, 99, 27, 28]
abbrev dktX1_root_0 : List UInt8 := dkwX1_root_0 ++ dktX1_root_1
theorem dksX1_root_0 : cX1_root.data.toList.drop 0 = dktX1_root_0 := by decide +kernel
theorem dksX1_root_1 : cX1_root.data.toList.drop 23 = dktX1_root_1 := dk_seg dksX1_root_0 23 rfl rfl
theorem dX1_root_0 : decode cX1_root 0 = .ok (.iload_n 1, 1) := dk_27 (dk_at dksX1_root_0 0 rfl rfl)
theorem dX1_root_1 : decode cX1_root 1 = .ok (.i2l, 1) := dk_133 (dk_at dksX1_root_0 1 rfl rfl)
theorem dX1_root_2 : decode cX1_root 2 = .ok (.lconst 0, 1) := dk_9 (dk_at dksX1_root_0 2 rfl rfl)
theorem dX1_root_3 : decode cX1_root 3 = .ok (.lconst 1, 1) := dk_10 (dk_at dksX1_root_0 3 rfl rfl)
theorem dX1_root_4 : decode cX1_root 4 = .ok (.invokestatic 130, 3) := dk_184 0 130 (dk_at dksX1_root_0 4 rfl rfl)
theorem dX1_root_7 : decode cX1_root 7 = .ok (.ldc 183, 2) := dk_18 183 (dk_at dksX1_root_0 7 rfl rfl)
theorem dX1_root_9 : decode cX1_root 9 = .ok (.invokestatic 173, 3) := dk_184 0 173 (dk_at dksX1_root_0 9 rfl rfl)
theorem dX1_root_12 : decode cX1_root 12 = .ok (.iload_n 2, 1) := dk_28 (dk_at dksX1_root_0 12 rfl rfl)
theorem dX1_root_13 : decode cX1_root 13 = .ok (.iconst 4, 1) := dk_7 (dk_at dksX1_root_0 13 rfl rfl)
theorem dX1_root_14 : decode cX1_root 14 = .ok (.invokestatic 176, 3) := dk_184 0 176 (dk_at dksX1_root_0 14 rfl rfl)
theorem dX1_root_17 : decode cX1_root 17 = .ok (.aload_n 0, 1) := dk_42 (dk_at dksX1_root_0 17 rfl rfl)
theorem dX1_root_18 : decode cX1_root 18 = .ok (.getfield 99, 3) := dk_180 0 99 (dk_at dksX1_root_0 18 rfl rfl)
theorem dX1_root_21 : decode cX1_root 21 = .ok (.iload_n 1, 1) := dk_27 (dk_at dksX1_root_0 21 rfl rfl)
theorem dX1_root_22 : decode cX1_root 22 = .ok (.iload_n 2, 1) := dk_28 (dk_at dksX1_root_0 22 rfl rfl)
theorem dX1_root_23 : decode cX1_root 23 = .ok (.invokevirtual 185, 3) := dk_182 0 185 (dk_at dksX1_root_1 0 rfl rfl)
theorem dX1_root_26 : decode cX1_root 26 = .ok (.ireturn, 1) := dk_172 (dk_at dksX1_root_1 3 rfl rfl)
/-! PageGarden.root(II)I -/
abbrev M_X1_root (z0 n0 : Nat) (s' : gS) : gM := (RX1, cX1_root, 3, (some FieldType.int), "root", [], 11, z0, n0, s'.2.1, s'.2.2)
abbrev W_X1_root (E : gE) (z0 n0 : Nat) (r : (Int32 ⊕ String)) (s' : gS) (pc : Nat) (L : List (Nat × gV)) (st : List gV) (s : gS) : Prop := gW E (M_X1_root z0 n0 s') (gQm E (M_X1_root z0 n0 s') (gOi r) s') pc L st s
noncomputable def f_X1_root_0 (κ : gK) (F : Nat)  (l0 : Option Nat) (l1 : Int32) (l2 : Int32) (s : gS) : Option ((Int32 ⊕ String) × gS) :=
  gB2 (f_X1_inRange κ F (l1.toInt64) (0 : Int64) (1 : Int64) s) fun v2 s1 =>
  gB3 (f_X1_requireIndex κ F v2 (κ.2 19) s1) fun v4 s3 =>
  gB3 (f_X1_requireWhat κ F l2 (4 : Int32) s3) fun v6 s5 =>
  gB1 (gfR s5 l0 0 0) fun v7 =>
  gB1 (gck s5 v7 7) fun _ =>
  gB2 (f_X3_rootValue κ F v7 l1 l2 s5) fun v9 s8 =>
  some ((.inl v9), s8)
set_option maxHeartbeats 4000000 in
theorem w_X1_root_0 {E : gE} {F z0 n0 : Nat} {r : (Int32 ⊕ String)} {s' : gS}   : ∀ (l0 : Option Nat) (l1 : Int32) (l2 : Int32)  (s : gS), f_X1_root_0 (gk E) F  l0 l1 l2 s = some (r, s') → W_X1_root E z0 n0 r s' 0 [(0, vR l0), (1, vI l1), (2, vI l2)] [] s := by
  intro l0 l1 l2 s hB
  unfold f_X1_root_0 at hB
  refine gw_iload_n 1 rfl dX1_root_0 ?_
  refine gw_i2l dX1_root_1 ?_
  refine gw_lconst (v := (0 : Int64)) (by decide) dX1_root_2 ?_
  refine gw_lconst (v := (1 : Int64)) (by decide) dX1_root_3 ?_
  obtain ⟨v2, s1, hv2, hB⟩ := gB2_some hB
  refine gw_callS (y := yX1_inRange) (lw_S q2582 q1362 q108 q1363) hdS_X1_inRange (As := [vJ (l1.toInt64), vJ (0 : Int64), vJ (1 : Int64)]) (rest := []) (m_X1_inRange _ _ _ _ _ _ hv2) (Nat.le_of_ble_eq_true rfl) (Nat.le_of_ble_eq_true rfl) rfl (Nat.le_of_ble_eq_true rfl) dX1_root_4 (gCont_i ?_)
  refine gw_ldcS (own := "PageGarden") (tx := "root") (i := 19) rfl (by decide) dX1_root_7 ?_
  rcases gB3_some hB with ⟨v4, s3, hv4, hB⟩ | ⟨Cv4, hv4, hzv4⟩
  rotate_left
  · subst hzv4
    exact gw_callS (y := yX1_requireIndex) (lw_S q2584 q2282 q108 q2283) hdS_X1_requireIndex (As := [vI v2, vR ((gk E).2 19)]) (rest := []) (m_X1_requireIndex _ _ _ _ _ hv4) (Nat.le_of_ble_eq_true rfl) (Nat.le_of_ble_eq_true rfl) rfl (Nat.le_of_ble_eq_true rfl) dX1_root_9 (gCont_x (gx_out rfl rfl rfl))
  refine gw_callS (y := yX1_requireIndex) (lw_S q2584 q2282 q108 q2283) hdS_X1_requireIndex (As := [vI v2, vR ((gk E).2 19)]) (rest := []) (m_X1_requireIndex _ _ _ _ _ hv4) (Nat.le_of_ble_eq_true rfl) (Nat.le_of_ble_eq_true rfl) rfl (Nat.le_of_ble_eq_true rfl) dX1_root_9 (gCont_v ?_)
  refine gw_iload_n 2 rfl dX1_root_12 ?_
  refine gw_iconst (v := (4 : Int32)) (by decide) dX1_root_13 ?_
  rcases gB3_some hB with ⟨v6, s5, hv6, hB⟩ | ⟨Cv6, hv6, hzv6⟩
  rotate_left
  · subst hzv6
    exact gw_callS (y := yX1_requireWhat) (lw_S q2585 q2586 q108 q2587) hdS_X1_requireWhat (As := [vI l2, vI (4 : Int32)]) (rest := []) (m_X1_requireWhat _ _ _ _ _ hv6) (Nat.le_of_ble_eq_true rfl) (Nat.le_of_ble_eq_true rfl) rfl (Nat.le_of_ble_eq_true rfl) dX1_root_14 (gCont_x (gx_out rfl rfl rfl))
  refine gw_callS (y := yX1_requireWhat) (lw_S q2585 q2586 q108 q2587) hdS_X1_requireWhat (As := [vI l2, vI (4 : Int32)]) (rest := []) (m_X1_requireWhat _ _ _ _ _ hv6) (Nat.le_of_ble_eq_true rfl) (Nat.le_of_ble_eq_true rfl) rfl (Nat.le_of_ble_eq_true rfl) dX1_root_14 (gCont_v ?_)
  refine gw_aload_n 0 rfl dX1_root_17 ?_
  obtain ⟨v7, hv7, hB⟩ := gB1_some hB
  refine gw_getf (C := RX1) (T := TX1) (N := 4) (k := 0) gcl0 (by decide) in_X1 q1271 (gfR_spec hv7) dX1_root_18 ?_
  refine gw_iload_n 1 rfl dX1_root_21 ?_
  refine gw_iload_n 2 rfl dX1_root_22 ?_
  obtain ⟨u0, hu10, hB⟩ := gB1_some hB
  obtain ⟨v9, s8, hv9, hB⟩ := gB2_some hB
  refine gw_callV (y := yX3_rootValue) (lw_V q2426 q2427 q2428 q110 q2429) hdV_X3_rootValue gcl7 hu10 (As := [vI l1, vI l2]) (rest := []) (m_X3_rootValue _ _ _ _ _ _ hv9) (Nat.le_of_ble_eq_true rfl) (Nat.le_of_ble_eq_true rfl) rfl (Nat.le_of_ble_eq_true rfl) dX1_root_23 (gCont_i ?_)
  obtain ⟨rfl, rfl⟩ := Prod.mk.inj (Option.some.inj hB)
  exact gw_iret rfl rfl rfl dX1_root_26
noncomputable def f_X1_root (κ : gK) (F : Nat) (a0 : Option Nat) (a1 : Int32) (a2 : Int32) (s : gS) : Option ((Int32 ⊕ String) × gS) := f_X1_root_0 κ F a0 a1 a2 s
theorem m_X1_root {E : gE} {F : Nat} (a0 : Option Nat) (a1 : Int32) (a2 : Int32) (s : gS) (r : (Int32 ⊕ String)) (s' : gS) (h : f_X1_root (gk E) F a0 a1 a2 s = some (r, s')) : gCT E 11 yX1_root (ws_ yX1_root cX1_root 3 (some FieldType.int)) [vR a0, vI a1, vI a2] s (gOi r) s' := by
  refine gCT_of2 (fun h => absurd h (by decide)) (plainFor_of_name (by decide)) (Nat.le_of_ble_eq_true rfl) ?_
  exact gw_sub [0, 1, 2] rfl (w_X1_root_0 _ _ _ _ h)
def dkwX1_runCommands_2 : List UInt8 := [78, 42, 45, 187, 0, 228, 89, 42, 183, 0, 230, 45, 182, 0, 240, 182, 0, 126, 172]
abbrev dktX1_runCommands_2 : List UInt8 := dkwX1_runCommands_2 ++ []
def dkwX1_runCommands_1 : List UInt8 := [180, 0, 237, 17, 252, 24, 159, 0, 11, 16, 246, 43, 180, 0, 237, 100, 172, 42, 180, 0, 99, 182, 0, 123]
abbrev dktX1_runCommands_1 : List UInt8 := dkwX1_runCommands_1 ++ dktX1_runCommands_2
def dkwX1_runCommands_0 : List UInt8 := [187, 0, 228, 89, 42, 183, 0, 230, 76, 4, 61, 28, 153, 0, 11, 43, 182, 0, 233, 61, 167, 255, 247, 43]
abbrev dktX1_runCommands_0 : List UInt8 := dkwX1_runCommands_0 ++ dktX1_runCommands_1
theorem dksX1_runCommands_0 : cX1_runCommands.data.toList.drop 0 = dktX1_runCommands_0 := by decide +kernel
theorem dksX1_runCommands_1 : cX1_runCommands.data.toList.drop 24 = dktX1_runCommands_1 := dk_seg dksX1_runCommands_0 24 rfl rfl
theorem dksX1_runCommands_2 : cX1_runCommands.data.toList.drop 48 = dktX1_runCommands_2 := dk_seg dksX1_runCommands_1 24 rfl rfl
theorem dX1_runCommands_0 : decode cX1_runCommands 0 = .ok (.new 228, 3) := dk_187 0 228 (dk_at dksX1_runCommands_0 0 rfl rfl)
theorem dX1_runCommands_3 : decode cX1_runCommands 3 = .ok (.dup, 1) := dk_89 (dk_at dksX1_runCommands_0 3 rfl rfl)
theorem dX1_runCommands_4 : decode cX1_runCommands 4 = .ok (.aload_n 0, 1) := dk_42 (dk_at dksX1_runCommands_0 4 rfl rfl)
theorem dX1_runCommands_5 : decode cX1_runCommands 5 = .ok (.invokespecial 230, 3) := dk_183 0 230 (dk_at dksX1_runCommands_0 5 rfl rfl)
theorem dX1_runCommands_8 : decode cX1_runCommands 8 = .ok (.astore_n 1, 1) := dk_76 (dk_at dksX1_runCommands_0 8 rfl rfl)
theorem dX1_runCommands_9 : decode cX1_runCommands 9 = .ok (.iconst 1, 1) := dk_4 (dk_at dksX1_runCommands_0 9 rfl rfl)
theorem dX1_runCommands_10 : decode cX1_runCommands 10 = .ok (.istore_n 2, 1) := dk_61 (dk_at dksX1_runCommands_0 10 rfl rfl)
theorem dX1_runCommands_11 : decode cX1_runCommands 11 = .ok (.iload_n 2, 1) := dk_28 (dk_at dksX1_runCommands_0 11 rfl rfl)
theorem dX1_runCommands_12 : decode cX1_runCommands 12 = .ok (.ifCond .eq 11, 3) := dk_153 0 11 (dk_at dksX1_runCommands_0 12 rfl rfl)
theorem dX1_runCommands_15 : decode cX1_runCommands 15 = .ok (.aload_n 1, 1) := dk_43 (dk_at dksX1_runCommands_0 15 rfl rfl)
theorem dX1_runCommands_16 : decode cX1_runCommands 16 = .ok (.invokevirtual 233, 3) := dk_182 0 233 (dk_at dksX1_runCommands_0 16 rfl rfl)
theorem dX1_runCommands_19 : decode cX1_runCommands 19 = .ok (.istore_n 2, 1) := dk_61 (dk_at dksX1_runCommands_0 19 rfl rfl)
theorem dX1_runCommands_20 : decode cX1_runCommands 20 = .ok (.goto (-9), 3) := dk_167 255 247 (dk_at dksX1_runCommands_0 20 rfl rfl)
theorem dX1_runCommands_23 : decode cX1_runCommands 23 = .ok (.aload_n 1, 1) := dk_43 (dk_at dksX1_runCommands_0 23 rfl rfl)
theorem dX1_runCommands_24 : decode cX1_runCommands 24 = .ok (.getfield 237, 3) := dk_180 0 237 (dk_at dksX1_runCommands_1 0 rfl rfl)
theorem dX1_runCommands_27 : decode cX1_runCommands 27 = .ok (.sipush (-1000), 3) := dk_17 252 24 (dk_at dksX1_runCommands_1 3 rfl rfl)
theorem dX1_runCommands_30 : decode cX1_runCommands 30 = .ok (.if_icmp .eq 11, 3) := dk_159 0 11 (dk_at dksX1_runCommands_1 6 rfl rfl)
theorem dX1_runCommands_33 : decode cX1_runCommands 33 = .ok (.bipush (-10), 2) := dk_16 246 (dk_at dksX1_runCommands_1 9 rfl rfl)
theorem dX1_runCommands_35 : decode cX1_runCommands 35 = .ok (.aload_n 1, 1) := dk_43 (dk_at dksX1_runCommands_1 11 rfl rfl)
theorem dX1_runCommands_36 : decode cX1_runCommands 36 = .ok (.getfield 237, 3) := dk_180 0 237 (dk_at dksX1_runCommands_1 12 rfl rfl)
theorem dX1_runCommands_39 : decode cX1_runCommands 39 = .ok (.isub, 1) := dk_100 (dk_at dksX1_runCommands_1 15 rfl rfl)
theorem dX1_runCommands_40 : decode cX1_runCommands 40 = .ok (.ireturn, 1) := dk_172 (dk_at dksX1_runCommands_1 16 rfl rfl)
theorem dX1_runCommands_41 : decode cX1_runCommands 41 = .ok (.aload_n 0, 1) := dk_42 (dk_at dksX1_runCommands_1 17 rfl rfl)
theorem dX1_runCommands_42 : decode cX1_runCommands 42 = .ok (.getfield 99, 3) := dk_180 0 99 (dk_at dksX1_runCommands_1 18 rfl rfl)
theorem dX1_runCommands_45 : decode cX1_runCommands 45 = .ok (.invokevirtual 123, 3) := dk_182 0 123 (dk_at dksX1_runCommands_1 21 rfl rfl)
theorem dX1_runCommands_48 : decode cX1_runCommands 48 = .ok (.astore_n 3, 1) := dk_78 (dk_at dksX1_runCommands_2 0 rfl rfl)
theorem dX1_runCommands_49 : decode cX1_runCommands 49 = .ok (.aload_n 0, 1) := dk_42 (dk_at dksX1_runCommands_2 1 rfl rfl)
theorem dX1_runCommands_50 : decode cX1_runCommands 50 = .ok (.aload_n 3, 1) := dk_45 (dk_at dksX1_runCommands_2 2 rfl rfl)
theorem dX1_runCommands_51 : decode cX1_runCommands 51 = .ok (.new 228, 3) := dk_187 0 228 (dk_at dksX1_runCommands_2 3 rfl rfl)
theorem dX1_runCommands_54 : decode cX1_runCommands 54 = .ok (.dup, 1) := dk_89 (dk_at dksX1_runCommands_2 6 rfl rfl)
theorem dX1_runCommands_55 : decode cX1_runCommands 55 = .ok (.aload_n 0, 1) := dk_42 (dk_at dksX1_runCommands_2 7 rfl rfl)
theorem dX1_runCommands_56 : decode cX1_runCommands 56 = .ok (.invokespecial 230, 3) := dk_183 0 230 (dk_at dksX1_runCommands_2 8 rfl rfl)
theorem dX1_runCommands_59 : decode cX1_runCommands 59 = .ok (.aload_n 3, 1) := dk_45 (dk_at dksX1_runCommands_2 11 rfl rfl)
theorem dX1_runCommands_60 : decode cX1_runCommands 60 = .ok (.invokevirtual 240, 3) := dk_182 0 240 (dk_at dksX1_runCommands_2 12 rfl rfl)
theorem dX1_runCommands_63 : decode cX1_runCommands 63 = .ok (.invokevirtual 126, 3) := dk_182 0 126 (dk_at dksX1_runCommands_2 15 rfl rfl)
theorem dX1_runCommands_66 : decode cX1_runCommands 66 = .ok (.ireturn, 1) := dk_172 (dk_at dksX1_runCommands_2 18 rfl rfl)
/-! PageGarden.runCommands()I -/
abbrev M_X1_runCommands (z0 n0 : Nat) (s' : gS) : gM := (RX1, cX1_runCommands, 4, (some FieldType.int), "runCommands", [], 16, z0, n0, s'.2.1, s'.2.2)
abbrev W_X1_runCommands (E : gE) (z0 n0 : Nat) (r : Int32) (s' : gS) (pc : Nat) (L : List (Nat × gV)) (st : List gV) (s : gS) : Prop := gW E (M_X1_runCommands z0 n0 s') (gQm E (M_X1_runCommands z0 n0 s') (.inl (some (vI r))) s') pc L st s
noncomputable def f_X1_runCommands_11b (κ : gK) (F : Nat) (k11 : Option Nat → Option Nat → Int32 → gS → Option (Int32 × gS)) (l0 : Option Nat) (l1 : Option Nat) (l2 : Int32) (s : gS) : Option (Int32 × gS) :=
  if l2 = 0 then
    gB1 (gfI s l1 8 1) fun v1 =>
    if v1 = (-1000 : Int32) then
      gB1 (gfR s l0 0 0) fun v2 =>
      gB1 (gck s v2 7) fun _ =>
      gB2 (f_X3_copy κ F v2  s) fun v4 s3 =>
      gB2 (gnw s3 8 g0_X11 5) fun v6 s7 =>
      gB1 (gsm v6) fun _ =>
      gB2 (f_X11_init κ F v6 l0 s7) fun v9 s8 =>
      gB1 (gck s8 v6 8) fun _ =>
      gB2 (f_X11_carryOutOn κ F v6 v4 s8) fun v12 s11 =>
      gB1 (gck s11 l0 0) fun _ =>
      gB2 (f_X1_become κ F l0 v4 v12 s11) fun v15 s14 =>
      some (v15, s14)
    else
      gB1 (gfI s l1 8 1) fun v17 =>
      some (((-10 : Int32) - v17), s)
  else
    gB1 (gck s l1 8) fun _ =>
    gB2 (f_X11_next κ F l1  s) fun v19 s18 =>
    k11 l0 l1 v19 s18
noncomputable def f_X1_runCommands_11 (κ : gK) (F : Nat)  : Nat → Option Nat → Option Nat → Int32 → gS → Option (Int32 × gS)
  | 0 => fun _ _ _ _ => none
  | n + 1 => f_X1_runCommands_11b κ F  (f_X1_runCommands_11 κ F  n)
set_option maxHeartbeats 4000000 in
theorem w_X1_runCommands_11b {E : gE} {F z0 n0 : Nat} {r : Int32} {s' : gS} {k11 : Option Nat → Option Nat → Int32 → gS → Option (Int32 × gS)} (hk11 : ∀ (l0 : Option Nat) (l1 : Option Nat) (l2 : Int32) (s : gS), k11 l0 l1 l2 s = some (r, s') → W_X1_runCommands E z0 n0 r s' 11 [(0, vR l0), (1, vR l1), (2, vI l2)] [] s) : ∀ (l0 : Option Nat) (l1 : Option Nat) (l2 : Int32)  (s : gS), f_X1_runCommands_11b (gk E) F k11 l0 l1 l2 s = some (r, s') → W_X1_runCommands E z0 n0 r s' 11 [(0, vR l0), (1, vR l1), (2, vI l2)] [] s := by
  intro l0 l1 l2 s hB
  unfold f_X1_runCommands_11b at hB
  refine gw_iload_n 2 rfl dX1_runCommands_11 ?_
  refine gw_if_eq (tgt := 23) dX1_runCommands_12 (by decide) (fun hcnd => ?_) (fun hcnd => ?_)
  · rw [if_pos hcnd] at hB
    refine gw_aload_n 1 rfl dX1_runCommands_23 ?_
    obtain ⟨v1, hv1, hB⟩ := gB1_some hB
    refine gw_getfN (C := RX11) (T := TX11) (N := 5) (k := 1) gcl8 (by decide) in_X11 q1334 (gfI_spec hv1) dX1_runCommands_24 ?_
    refine gw_sipush (v := (-1000 : Int32)) (by decide) dX1_runCommands_27 ?_
    refine gw_icmp_eq (tgt := 41) dX1_runCommands_30 (by decide) (fun hcnd => ?_) (fun hcnd => ?_)
    · rw [if_pos hcnd] at hB
      refine gw_aload_n 0 rfl dX1_runCommands_41 ?_
      obtain ⟨v2, hv2, hB⟩ := gB1_some hB
      refine gw_getf (C := RX1) (T := TX1) (N := 4) (k := 0) gcl0 (by decide) in_X1 q1271 (gfR_spec hv2) dX1_runCommands_42 ?_
      obtain ⟨u0, hu5, hB⟩ := gB1_some hB
      obtain ⟨v4, s3, hv4, hB⟩ := gB2_some hB
      refine gw_callV (y := yX3_copy) (lw_V q1409 q1410 q1411 q110 q1412) hdV_X3_copy gcl7 hu5 (As := []) (rest := []) (m_X3_copy _ _ _ _ hv4) (Nat.le_of_ble_eq_true rfl) (Nat.le_of_ble_eq_true rfl) rfl (Nat.le_of_ble_eq_true rfl) dX1_runCommands_45 (gCont_i ?_)
      refine gw_astore_n (L' := [(3, vR v4), (0, vR l0), (1, vR l1), (2, vI l2)]) (Nat.le_of_ble_eq_true rfl) rfl dX1_runCommands_48 ?_
      refine gw_aload_n 1 rfl dX1_runCommands_49 ?_
      refine gw_aload_n 0 rfl dX1_runCommands_50 ?_
      obtain ⟨v6, s7, hv6, hB⟩ := gB2_some hB
      refine gw_new (C := RX11) (T := TX11) (N := 5) tyX11 tyX11_ok gcl8 in_X11 q1325 q1326 q165 g0_X11_ok hv6 dX1_runCommands_51 ?_
      refine gw_dup rfl dX1_runCommands_54 ?_
      refine gw_aload_n 1 rfl dX1_runCommands_55 ?_
      obtain ⟨u0, hu10, hB⟩ := gB1_some hB
      obtain ⟨v9, s8, hv9, hB⟩ := gB2_some hB
      refine gw_callIN (y := yX11_init) (lw_meth q1329) q165 q1327 q1328 rfl hdS_X11_init (gsm_spec hu10) (As := [vR l0]) (rest := [vR v6, vR v4, vR l0]) (m_X11_init _ _ _ _ _ hv9) (Nat.le_of_ble_eq_true rfl) (Nat.le_of_ble_eq_true rfl) rfl (Nat.le_of_ble_eq_true rfl) dX1_runCommands_56 (gCont_v ?_)
      refine gw_aload_n 0 rfl dX1_runCommands_59 ?_
      obtain ⟨u0, hu13, hB⟩ := gB1_some hB
      obtain ⟨v12, s11, hv12, hB⟩ := gB2_some hB
      refine gw_callVW (y := yX11_carryOutOn) (lw_VW q1959 q1960 q1961 q165 q1962) hdV_X11_carryOutOn gcl8 hu13 (As := [vR v4]) (rest := [vR v4, vR l0]) (m_X11_carryOutOn _ _ _ _ _ hv12) (Nat.le_of_ble_eq_true rfl) (Nat.le_of_ble_eq_true rfl) rfl (Nat.le_of_ble_eq_true rfl) dX1_runCommands_60 (gCont_i ?_)
      obtain ⟨u0, hu16, hB⟩ := gB1_some hB
      obtain ⟨v15, s14, hv15, hB⟩ := gB2_some hB
      refine gw_callV (y := yX1_become) (lw_V q2332 q2334 qs36 q108 q2335) hdV_X1_become gcl0 hu16 (As := [vR v4, vI v12]) (rest := []) (m_X1_become _ _ _ _ _ _ hv15) (Nat.le_of_ble_eq_true rfl) (Nat.le_of_ble_eq_true rfl) rfl (Nat.le_of_ble_eq_true rfl) dX1_runCommands_63 (gCont_i ?_)
      obtain ⟨rfl, rfl⟩ := Prod.mk.inj (Option.some.inj hB)
      exact gw_iret rfl rfl rfl dX1_runCommands_66
    · rw [if_neg hcnd] at hB
      refine gw_bipush (v := (-10 : Int32)) (by decide) dX1_runCommands_33 ?_
      refine gw_aload_n 1 rfl dX1_runCommands_35 ?_
      obtain ⟨v17, hv17, hB⟩ := gB1_some hB
      refine gw_getfN (C := RX11) (T := TX11) (N := 5) (k := 1) gcl8 (by decide) in_X11 q1334 (gfI_spec hv17) dX1_runCommands_36 ?_
      refine gw_isub dX1_runCommands_39 ?_
      obtain ⟨rfl, rfl⟩ := Prod.mk.inj (Option.some.inj hB)
      exact gw_iret rfl rfl rfl dX1_runCommands_40
  · rw [if_neg hcnd] at hB
    refine gw_aload_n 1 rfl dX1_runCommands_15 ?_
    obtain ⟨u0, hu20, hB⟩ := gB1_some hB
    obtain ⟨v19, s18, hv19, hB⟩ := gB2_some hB
    refine gw_callV (y := yX11_next) (lw_V q1349 q1350 q1351 q165 q1352) hdV_X11_next gcl8 hu20 (As := []) (rest := []) (m_X11_next _ _ _ _ hv19) (Nat.le_of_ble_eq_true rfl) (Nat.le_of_ble_eq_true rfl) rfl (Nat.le_of_ble_eq_true rfl) dX1_runCommands_16 (gCont_i ?_)
    refine gw_istore_n (L' := [(2, vI v19), (0, vR l0), (1, vR l1)]) (Nat.le_of_ble_eq_true rfl) rfl dX1_runCommands_19 ?_
    refine gw_goto (tgt := 11) dX1_runCommands_20 (by decide) ?_
    exact gw_sub [1, 2, 0] rfl (hk11 _ _ _ _ hB)
theorem w_X1_runCommands_11 {E : gE} {F z0 n0 : Nat} {r : Int32} {s' : gS}   : ∀ (n : Nat) (l0 : Option Nat) (l1 : Option Nat) (l2 : Int32)  (s : gS), f_X1_runCommands_11 (gk E) F  n l0 l1 l2 s = some (r, s') → W_X1_runCommands E z0 n0 r s' 11 [(0, vR l0), (1, vR l1), (2, vI l2)] [] s := by
  intro n
  induction n with
  | zero => intro l0 l1 l2 s hB; cases hB
  | succ n ih => intro l0 l1 l2 s hB; exact w_X1_runCommands_11b ih l0 l1 l2 s hB
noncomputable def f_X1_runCommands_0 (κ : gK) (F : Nat)  (l0 : Option Nat) (s : gS) : Option (Int32 × gS) :=
  gB2 (gnw s 8 g0_X11 5) fun v1 s2 =>
  gB1 (gsm v1) fun _ =>
  gB2 (f_X11_init κ F v1 l0 s2) fun v4 s3 =>
  f_X1_runCommands_11 κ F  F l0 v1 (1 : Int32) s3
set_option maxHeartbeats 4000000 in
theorem w_X1_runCommands_0 {E : gE} {F z0 n0 : Nat} {r : Int32} {s' : gS}   : ∀ (l0 : Option Nat)  (s : gS), f_X1_runCommands_0 (gk E) F  l0 s = some (r, s') → W_X1_runCommands E z0 n0 r s' 0 [(0, vR l0)] [] s := by
  intro l0 s hB
  unfold f_X1_runCommands_0 at hB
  obtain ⟨v1, s2, hv1, hB⟩ := gB2_some hB
  refine gw_new (C := RX11) (T := TX11) (N := 5) tyX11 tyX11_ok gcl8 in_X11 q1325 q1326 q165 g0_X11_ok hv1 dX1_runCommands_0 ?_
  refine gw_dup rfl dX1_runCommands_3 ?_
  refine gw_aload_n 0 rfl dX1_runCommands_4 ?_
  obtain ⟨u0, hu5, hB⟩ := gB1_some hB
  obtain ⟨v4, s3, hv4, hB⟩ := gB2_some hB
  refine gw_callIN (y := yX11_init) (lw_meth q1329) q165 q1327 q1328 rfl hdS_X11_init (gsm_spec hu5) (As := [vR l0]) (rest := [vR v1]) (m_X11_init _ _ _ _ _ hv4) (Nat.le_of_ble_eq_true rfl) (Nat.le_of_ble_eq_true rfl) rfl (Nat.le_of_ble_eq_true rfl) dX1_runCommands_5 (gCont_v ?_)
  refine gw_astore_n (L' := [(1, vR v1), (0, vR l0)]) (Nat.le_of_ble_eq_true rfl) rfl dX1_runCommands_8 ?_
  refine gw_iconst (v := (1 : Int32)) (by decide) dX1_runCommands_9 ?_
  refine gw_istore_n (L' := [(2, vI (1 : Int32)), (1, vR v1), (0, vR l0)]) (Nat.le_of_ble_eq_true rfl) rfl dX1_runCommands_10 ?_
  exact gw_sub [2, 1, 0] rfl (w_X1_runCommands_11  F _ _ _ _ hB)
noncomputable def f_X1_runCommands (κ : gK) (F : Nat) (a0 : Option Nat) (s : gS) : Option (Int32 × gS) := f_X1_runCommands_0 κ F a0 s
theorem m_X1_runCommands {E : gE} {F : Nat} (a0 : Option Nat) (s : gS) (r : Int32) (s' : gS) (h : f_X1_runCommands (gk E) F a0 s = some (r, s')) : gCT E 16 yX1_runCommands (ws_ yX1_runCommands cX1_runCommands 4 (some FieldType.int)) [vR a0] s (.inl (some (vI r))) s' := by
  refine gCT_of2 (fun h => absurd h (by decide)) (plainFor_of_name (by decide)) (Nat.le_of_ble_eq_true rfl) ?_
  exact gw_sub [0] rfl (w_X1_runCommands_0 _ _ h)
def dkwX1_type_2 : List UInt8 := [180, 0, 198, 4, 96, 181, 0, 198, 42, 180, 0, 198, 172]
abbrev dktX1_type_2 : List UInt8 := dkwX1_type_2 ++ []
def dkwX1_type_1 : List UInt8 := [4, 167, 0, 4, 3, 18, 223, 184, 0, 225, 42, 180, 0, 110, 42, 180, 0, 198, 27, 145, 84, 42, 89]
abbrev dktX1_type_1 : List UInt8 := dkwX1_type_1 ++ dktX1_type_2
def dkwX1_type_0 : List UInt8 := [27, 133, 9, 20, 0, 219, 184, 0, 130, 18, 221, 184, 0, 136, 42, 180, 0, 198, 17, 0, 150, 162, 0, 7]
abbrev dktX1_type_0 : List UInt8 := dkwX1_type_0 ++ dktX1_type_1
theorem dksX1_type_0 : cX1_type.data.toList.drop 0 = dktX1_type_0 := by decide +kernel
theorem dksX1_type_1 : cX1_type.data.toList.drop 24 = dktX1_type_1 := dk_seg dksX1_type_0 24 rfl rfl
theorem dksX1_type_2 : cX1_type.data.toList.drop 47 = dktX1_type_2 := dk_seg dksX1_type_1 23 rfl rfl
theorem dX1_type_0 : decode cX1_type 0 = .ok (.iload_n 1, 1) := dk_27 (dk_at dksX1_type_0 0 rfl rfl)
theorem dX1_type_1 : decode cX1_type 1 = .ok (.i2l, 1) := dk_133 (dk_at dksX1_type_0 1 rfl rfl)
theorem dX1_type_2 : decode cX1_type 2 = .ok (.lconst 0, 1) := dk_9 (dk_at dksX1_type_0 2 rfl rfl)
theorem dX1_type_3 : decode cX1_type 3 = .ok (.ldc2_w 219, 3) := dk_20 0 219 (dk_at dksX1_type_0 3 rfl rfl)
theorem dX1_type_6 : decode cX1_type 6 = .ok (.invokestatic 130, 3) := dk_184 0 130 (dk_at dksX1_type_0 6 rfl rfl)
theorem dX1_type_9 : decode cX1_type 9 = .ok (.ldc 221, 2) := dk_18 221 (dk_at dksX1_type_0 9 rfl rfl)
theorem dX1_type_11 : decode cX1_type 11 = .ok (.invokestatic 136, 3) := dk_184 0 136 (dk_at dksX1_type_0 11 rfl rfl)
theorem dX1_type_14 : decode cX1_type 14 = .ok (.aload_n 0, 1) := dk_42 (dk_at dksX1_type_0 14 rfl rfl)
theorem dX1_type_15 : decode cX1_type 15 = .ok (.getfield 198, 3) := dk_180 0 198 (dk_at dksX1_type_0 15 rfl rfl)
theorem dX1_type_18 : decode cX1_type 18 = .ok (.sipush 150, 3) := dk_17 0 150 (dk_at dksX1_type_0 18 rfl rfl)
theorem dX1_type_21 : decode cX1_type 21 = .ok (.if_icmp .ge 7, 3) := dk_162 0 7 (dk_at dksX1_type_0 21 rfl rfl)
theorem dX1_type_24 : decode cX1_type 24 = .ok (.iconst 1, 1) := dk_4 (dk_at dksX1_type_1 0 rfl rfl)
theorem dX1_type_25 : decode cX1_type 25 = .ok (.goto 4, 3) := dk_167 0 4 (dk_at dksX1_type_1 1 rfl rfl)
theorem dX1_type_28 : decode cX1_type 28 = .ok (.iconst 0, 1) := dk_3 (dk_at dksX1_type_1 4 rfl rfl)
theorem dX1_type_29 : decode cX1_type 29 = .ok (.ldc 223, 2) := dk_18 223 (dk_at dksX1_type_1 5 rfl rfl)
theorem dX1_type_31 : decode cX1_type 31 = .ok (.invokestatic 225, 3) := dk_184 0 225 (dk_at dksX1_type_1 7 rfl rfl)
theorem dX1_type_34 : decode cX1_type 34 = .ok (.aload_n 0, 1) := dk_42 (dk_at dksX1_type_1 10 rfl rfl)
theorem dX1_type_35 : decode cX1_type 35 = .ok (.getfield 110, 3) := dk_180 0 110 (dk_at dksX1_type_1 11 rfl rfl)
theorem dX1_type_38 : decode cX1_type 38 = .ok (.aload_n 0, 1) := dk_42 (dk_at dksX1_type_1 14 rfl rfl)
theorem dX1_type_39 : decode cX1_type 39 = .ok (.getfield 198, 3) := dk_180 0 198 (dk_at dksX1_type_1 15 rfl rfl)
theorem dX1_type_42 : decode cX1_type 42 = .ok (.iload_n 1, 1) := dk_27 (dk_at dksX1_type_1 18 rfl rfl)
theorem dX1_type_43 : decode cX1_type 43 = .ok (.i2b, 1) := dk_145 (dk_at dksX1_type_1 19 rfl rfl)
theorem dX1_type_44 : decode cX1_type 44 = .ok (.bastore, 1) := dk_84 (dk_at dksX1_type_1 20 rfl rfl)
theorem dX1_type_45 : decode cX1_type 45 = .ok (.aload_n 0, 1) := dk_42 (dk_at dksX1_type_1 21 rfl rfl)
theorem dX1_type_46 : decode cX1_type 46 = .ok (.dup, 1) := dk_89 (dk_at dksX1_type_1 22 rfl rfl)
theorem dX1_type_47 : decode cX1_type 47 = .ok (.getfield 198, 3) := dk_180 0 198 (dk_at dksX1_type_2 0 rfl rfl)
theorem dX1_type_50 : decode cX1_type 50 = .ok (.iconst 1, 1) := dk_4 (dk_at dksX1_type_2 3 rfl rfl)
theorem dX1_type_51 : decode cX1_type 51 = .ok (.iadd, 1) := dk_96 (dk_at dksX1_type_2 4 rfl rfl)
theorem dX1_type_52 : decode cX1_type 52 = .ok (.putfield 198, 3) := dk_181 0 198 (dk_at dksX1_type_2 5 rfl rfl)
theorem dX1_type_55 : decode cX1_type 55 = .ok (.aload_n 0, 1) := dk_42 (dk_at dksX1_type_2 8 rfl rfl)
theorem dX1_type_56 : decode cX1_type 56 = .ok (.getfield 198, 3) := dk_180 0 198 (dk_at dksX1_type_2 9 rfl rfl)
theorem dX1_type_59 : decode cX1_type 59 = .ok (.ireturn, 1) := dk_172 (dk_at dksX1_type_2 12 rfl rfl)
/-! PageGarden.type(I)I -/
abbrev M_X1_type (z0 n0 : Nat) (s' : gS) : gM := (RX1, cX1_type, 2, (some FieldType.int), "type", [], 10, z0, n0, s'.2.1, s'.2.2)
abbrev W_X1_type (E : gE) (z0 n0 : Nat) (r : (Int32 ⊕ String)) (s' : gS) (pc : Nat) (L : List (Nat × gV)) (st : List gV) (s : gS) : Prop := gW E (M_X1_type z0 n0 s') (gQm E (M_X1_type z0 n0 s') (gOi r) s') pc L st s
noncomputable def f_X1_type_29 (κ : gK) (F : Nat)  (l0 : Option Nat) (l1 : Int32) (t0 : Int32) (s : gS) : Option ((Int32 ⊕ String) × gS) :=
  gB3 (f_X1_requireState κ F t0 (κ.2 22) s) fun v2 s1 =>
  gB1 (gfR s1 l0 0 2) fun v3 =>
  gB1 (gfI s1 l0 0 3) fun v4 =>
  gB1 (gsB κ s1 v3 v4 (l1.toInt8.toInt32)) fun s5 =>
  gB1 (gfI s5 l0 0 3) fun v6 =>
  gB1 (gpf κ s5 l0 0 3 (.int (v6 + (1 : Int32)))) fun s7 =>
  gB1 (gfI s7 l0 0 3) fun v8 =>
  some ((.inl v8), s7)
set_option maxHeartbeats 4000000 in
theorem w_X1_type_29 {E : gE} {F z0 n0 : Nat} {r : (Int32 ⊕ String)} {s' : gS}   : ∀ (l0 : Option Nat) (l1 : Int32) (t0 : Int32) (s : gS), f_X1_type_29 (gk E) F  l0 l1 t0 s = some (r, s') → W_X1_type E z0 n0 r s' 29 [(0, vR l0), (1, vI l1)] [vI t0] s := by
  intro l0 l1 t0 s hB
  unfold f_X1_type_29 at hB
  refine gw_ldcS (own := "PageGarden") (tx := "command text") (i := 22) rfl (by decide) dX1_type_29 ?_
  rcases gB3_some hB with ⟨v2, s1, hv2, hB⟩ | ⟨Cv2, hv2, hzv2⟩
  rotate_left
  · subst hzv2
    exact gw_callS (y := yX1_requireState) (lw_S q2679 q2016 q108 q2017) hdS_X1_requireState (As := [vI t0, vR ((gk E).2 22)]) (rest := []) (m_X1_requireState _ _ _ _ _ hv2) (Nat.le_of_ble_eq_true rfl) (Nat.le_of_ble_eq_true rfl) rfl (Nat.le_of_ble_eq_true rfl) dX1_type_31 (gCont_x (gx_out rfl rfl rfl))
  refine gw_callS (y := yX1_requireState) (lw_S q2679 q2016 q108 q2017) hdS_X1_requireState (As := [vI t0, vR ((gk E).2 22)]) (rest := []) (m_X1_requireState _ _ _ _ _ hv2) (Nat.le_of_ble_eq_true rfl) (Nat.le_of_ble_eq_true rfl) rfl (Nat.le_of_ble_eq_true rfl) dX1_type_31 (gCont_v ?_)
  refine gw_aload_n 0 rfl dX1_type_34 ?_
  obtain ⟨v3, hv3, hB⟩ := gB1_some hB
  refine gw_getf (C := RX1) (T := TX1) (N := 4) (k := 2) gcl0 (by decide) in_X1 q1274 (gfR_spec hv3) dX1_type_35 ?_
  refine gw_aload_n 0 rfl dX1_type_38 ?_
  obtain ⟨v4, hv4, hB⟩ := gB1_some hB
  refine gw_getf (C := RX1) (T := TX1) (N := 4) (k := 3) gcl0 (by decide) in_X1 q1276 (gfI_spec hv4) dX1_type_39 ?_
  refine gw_iload_n 1 rfl dX1_type_42 ?_
  refine gw_i2b dX1_type_43 ?_
  obtain ⟨s5, hs5, hB⟩ := gB1_some hB
  refine gw_bastore hs5 dX1_type_44 ?_
  refine gw_aload_n 0 rfl dX1_type_45 ?_
  refine gw_dup rfl dX1_type_46 ?_
  obtain ⟨v6, hv6, hB⟩ := gB1_some hB
  refine gw_getf (C := RX1) (T := TX1) (N := 4) (k := 3) gcl0 (by decide) in_X1 q1276 (gfI_spec hv6) dX1_type_47 ?_
  refine gw_iconst (v := (1 : Int32)) (by decide) dX1_type_50 ?_
  refine gw_iadd dX1_type_51 ?_
  obtain ⟨s7, hs7, hB⟩ := gB1_some hB
  refine gw_putf (C := RX1) (T := TX1) (N := 4) (k := 3) tyX1 tyX1_ok nmX1 gcl0 (by decide) in_X1 q1276 rfl (tyX1_ok 3 (by decide)) (gNF_i _) hs7 dX1_type_52 ?_
  refine gw_aload_n 0 rfl dX1_type_55 ?_
  obtain ⟨v8, hv8, hB⟩ := gB1_some hB
  refine gw_getf (C := RX1) (T := TX1) (N := 4) (k := 3) gcl0 (by decide) in_X1 q1276 (gfI_spec hv8) dX1_type_56 ?_
  obtain ⟨rfl, rfl⟩ := Prod.mk.inj (Option.some.inj hB)
  exact gw_iret rfl rfl rfl dX1_type_59
noncomputable def f_X1_type_0 (κ : gK) (F : Nat)  (l0 : Option Nat) (l1 : Int32) (s : gS) : Option ((Int32 ⊕ String) × gS) :=
  gB2 (f_X1_inRange κ F (l1.toInt64) (0 : Int64) (127 : Int64) s) fun v2 s1 =>
  gB3 (f_X1_requireArgument κ F v2 (κ.2 21) s1) fun v4 s3 =>
  gB1 (gfI s3 l0 0 3) fun v5 =>
  if (150 : Int32) ≤ v5 then
    f_X1_type_29 κ F  l0 l1 (0 : Int32) s3
  else
    f_X1_type_29 κ F  l0 l1 (1 : Int32) s3
set_option maxHeartbeats 4000000 in
theorem w_X1_type_0 {E : gE} {F z0 n0 : Nat} {r : (Int32 ⊕ String)} {s' : gS}   : ∀ (l0 : Option Nat) (l1 : Int32)  (s : gS), f_X1_type_0 (gk E) F  l0 l1 s = some (r, s') → W_X1_type E z0 n0 r s' 0 [(0, vR l0), (1, vI l1)] [] s := by
  intro l0 l1 s hB
  unfold f_X1_type_0 at hB
  refine gw_iload_n 1 rfl dX1_type_0 ?_
  refine gw_i2l dX1_type_1 ?_
  refine gw_lconst (v := (0 : Int64)) (by decide) dX1_type_2 ?_
  refine gw_ldc2 (127 : Int64) q2676 dX1_type_3 ?_
  obtain ⟨v2, s1, hv2, hB⟩ := gB2_some hB
  refine gw_callS (y := yX1_inRange) (lw_S q2582 q1362 q108 q1363) hdS_X1_inRange (As := [vJ (l1.toInt64), vJ (0 : Int64), vJ (127 : Int64)]) (rest := []) (m_X1_inRange _ _ _ _ _ _ hv2) (Nat.le_of_ble_eq_true rfl) (Nat.le_of_ble_eq_true rfl) rfl (Nat.le_of_ble_eq_true rfl) dX1_type_6 (gCont_i ?_)
  refine gw_ldcS (own := "PageGarden") (tx := "byte") (i := 21) rfl (by decide) dX1_type_9 ?_
  rcases gB3_some hB with ⟨v4, s3, hv4, hB⟩ | ⟨Cv4, hv4, hzv4⟩
  rotate_left
  · subst hzv4
    exact gw_callS (y := yX1_requireArgument) (lw_S q2589 q2002 q108 q2003) hdS_X1_requireArgument (As := [vI v2, vR ((gk E).2 21)]) (rest := []) (m_X1_requireArgument _ _ _ _ _ hv4) (Nat.le_of_ble_eq_true rfl) (Nat.le_of_ble_eq_true rfl) rfl (Nat.le_of_ble_eq_true rfl) dX1_type_11 (gCont_x (gx_out rfl rfl rfl))
  refine gw_callS (y := yX1_requireArgument) (lw_S q2589 q2002 q108 q2003) hdS_X1_requireArgument (As := [vI v2, vR ((gk E).2 21)]) (rest := []) (m_X1_requireArgument _ _ _ _ _ hv4) (Nat.le_of_ble_eq_true rfl) (Nat.le_of_ble_eq_true rfl) rfl (Nat.le_of_ble_eq_true rfl) dX1_type_11 (gCont_v ?_)
  refine gw_aload_n 0 rfl dX1_type_14 ?_
  obtain ⟨v5, hv5, hB⟩ := gB1_some hB
  refine gw_getf (C := RX1) (T := TX1) (N := 4) (k := 3) gcl0 (by decide) in_X1 q1276 (gfI_spec hv5) dX1_type_15 ?_
  refine gw_sipush (v := (150 : Int32)) (by decide) dX1_type_18 ?_
  refine gw_icmp_ge (tgt := 28) dX1_type_21 (by decide) (fun hcnd => ?_) (fun hcnd => ?_)
  · rw [if_pos hcnd] at hB
    refine gw_iconst (v := (0 : Int32)) (by decide) dX1_type_28 ?_
    exact gw_sub [0, 1] rfl (w_X1_type_29  _ _ _ _ hB)
  · rw [if_neg hcnd] at hB
    refine gw_iconst (v := (1 : Int32)) (by decide) dX1_type_24 ?_
    refine gw_goto (tgt := 29) dX1_type_25 (by decide) ?_
    exact gw_sub [0, 1] rfl (w_X1_type_29  _ _ _ _ hB)
noncomputable def f_X1_type (κ : gK) (F : Nat) (a0 : Option Nat) (a1 : Int32) (s : gS) : Option ((Int32 ⊕ String) × gS) := f_X1_type_0 κ F a0 a1 s
theorem m_X1_type {E : gE} {F : Nat} (a0 : Option Nat) (a1 : Int32) (s : gS) (r : (Int32 ⊕ String)) (s' : gS) (h : f_X1_type (gk E) F a0 a1 s = some (r, s')) : gCT E 10 yX1_type (ws_ yX1_type cX1_type 2 (some FieldType.int)) [vR a0, vI a1] s (gOi r) s' := by
  refine gCT_of2 (fun h => absurd h (by decide)) (plainFor_of_name (by decide)) (Nat.le_of_ble_eq_true rfl) ?_
  exact gw_sub [0, 1] rfl (w_X1_type_0 _ _ _ h)
def dkwX1_undo_2 : List UInt8 := [180, 0, 106, 182, 0, 114, 172]
abbrev dktX1_undo_2 : List UInt8 := dkwX1_undo_2 ++ []
def dkwX1_undo_1 : List UInt8 := [180, 0, 106, 42, 180, 0, 106, 182, 0, 114, 4, 100, 182, 0, 117, 192, 0, 40, 181, 0, 99, 42]
abbrev dktX1_undo_1 : List UInt8 := dkwX1_undo_1 ++ dktX1_undo_2
def dkwX1_undo_0 : List UInt8 := [42, 180, 0, 106, 182, 0, 114, 158, 0, 7, 4, 167, 0, 4, 3, 18, 244, 184, 0, 225, 42, 42]
abbrev dktX1_undo_0 : List UInt8 := dkwX1_undo_0 ++ dktX1_undo_1
theorem dksX1_undo_0 : cX1_undo.data.toList.drop 0 = dktX1_undo_0 := by decide +kernel
theorem dksX1_undo_1 : cX1_undo.data.toList.drop 22 = dktX1_undo_1 := dk_seg dksX1_undo_0 22 rfl rfl
theorem dksX1_undo_2 : cX1_undo.data.toList.drop 44 = dktX1_undo_2 := dk_seg dksX1_undo_1 22 rfl rfl
theorem dX1_undo_0 : decode cX1_undo 0 = .ok (.aload_n 0, 1) := dk_42 (dk_at dksX1_undo_0 0 rfl rfl)
theorem dX1_undo_1 : decode cX1_undo 1 = .ok (.getfield 106, 3) := dk_180 0 106 (dk_at dksX1_undo_0 1 rfl rfl)
theorem dX1_undo_4 : decode cX1_undo 4 = .ok (.invokevirtual 114, 3) := dk_182 0 114 (dk_at dksX1_undo_0 4 rfl rfl)
theorem dX1_undo_7 : decode cX1_undo 7 = .ok (.ifCond .le 7, 3) := dk_158 0 7 (dk_at dksX1_undo_0 7 rfl rfl)
theorem dX1_undo_10 : decode cX1_undo 10 = .ok (.iconst 1, 1) := dk_4 (dk_at dksX1_undo_0 10 rfl rfl)
theorem dX1_undo_11 : decode cX1_undo 11 = .ok (.goto 4, 3) := dk_167 0 4 (dk_at dksX1_undo_0 11 rfl rfl)
theorem dX1_undo_14 : decode cX1_undo 14 = .ok (.iconst 0, 1) := dk_3 (dk_at dksX1_undo_0 14 rfl rfl)
theorem dX1_undo_15 : decode cX1_undo 15 = .ok (.ldc 244, 2) := dk_18 244 (dk_at dksX1_undo_0 15 rfl rfl)
theorem dX1_undo_17 : decode cX1_undo 17 = .ok (.invokestatic 225, 3) := dk_184 0 225 (dk_at dksX1_undo_0 17 rfl rfl)
theorem dX1_undo_20 : decode cX1_undo 20 = .ok (.aload_n 0, 1) := dk_42 (dk_at dksX1_undo_0 20 rfl rfl)
theorem dX1_undo_21 : decode cX1_undo 21 = .ok (.aload_n 0, 1) := dk_42 (dk_at dksX1_undo_0 21 rfl rfl)
theorem dX1_undo_22 : decode cX1_undo 22 = .ok (.getfield 106, 3) := dk_180 0 106 (dk_at dksX1_undo_1 0 rfl rfl)
theorem dX1_undo_25 : decode cX1_undo 25 = .ok (.aload_n 0, 1) := dk_42 (dk_at dksX1_undo_1 3 rfl rfl)
theorem dX1_undo_26 : decode cX1_undo 26 = .ok (.getfield 106, 3) := dk_180 0 106 (dk_at dksX1_undo_1 4 rfl rfl)
theorem dX1_undo_29 : decode cX1_undo 29 = .ok (.invokevirtual 114, 3) := dk_182 0 114 (dk_at dksX1_undo_1 7 rfl rfl)
theorem dX1_undo_32 : decode cX1_undo 32 = .ok (.iconst 1, 1) := dk_4 (dk_at dksX1_undo_1 10 rfl rfl)
theorem dX1_undo_33 : decode cX1_undo 33 = .ok (.isub, 1) := dk_100 (dk_at dksX1_undo_1 11 rfl rfl)
theorem dX1_undo_34 : decode cX1_undo 34 = .ok (.invokevirtual 117, 3) := dk_182 0 117 (dk_at dksX1_undo_1 12 rfl rfl)
theorem dX1_undo_37 : decode cX1_undo 37 = .ok (.checkcast 40, 3) := dk_192 0 40 (dk_at dksX1_undo_1 15 rfl rfl)
theorem dX1_undo_40 : decode cX1_undo 40 = .ok (.putfield 99, 3) := dk_181 0 99 (dk_at dksX1_undo_1 18 rfl rfl)
theorem dX1_undo_43 : decode cX1_undo 43 = .ok (.aload_n 0, 1) := dk_42 (dk_at dksX1_undo_1 21 rfl rfl)
theorem dX1_undo_44 : decode cX1_undo 44 = .ok (.getfield 106, 3) := dk_180 0 106 (dk_at dksX1_undo_2 0 rfl rfl)
theorem dX1_undo_47 : decode cX1_undo 47 = .ok (.invokevirtual 114, 3) := dk_182 0 114 (dk_at dksX1_undo_2 3 rfl rfl)
theorem dX1_undo_50 : decode cX1_undo 50 = .ok (.ireturn, 1) := dk_172 (dk_at dksX1_undo_2 6 rfl rfl)
/-! PageGarden.undo()I -/
abbrev M_X1_undo (z0 n0 : Nat) (s' : gS) : gM := (RX1, cX1_undo, 1, (some FieldType.int), "undo", [], 10, z0, n0, s'.2.1, s'.2.2)
abbrev W_X1_undo (E : gE) (z0 n0 : Nat) (r : (Int32 ⊕ String)) (s' : gS) (pc : Nat) (L : List (Nat × gV)) (st : List gV) (s : gS) : Prop := gW E (M_X1_undo z0 n0 s') (gQm E (M_X1_undo z0 n0 s') (gOi r) s') pc L st s
noncomputable def f_X1_undo_15 (κ : gK) (F : Nat)  (l0 : Option Nat) (t0 : Int32) (s : gS) : Option ((Int32 ⊕ String) × gS) :=
  gB3 (f_X1_requireState κ F t0 (κ.2 23) s) fun v2 s1 =>
  gB1 (gfR s1 l0 0 1) fun v3 =>
  gB1 (gfR s1 l0 0 1) fun v4 =>
  gB1 (gck s1 v4 13) fun _ =>
  gB2 (f_J25_size κ F v4  s1) fun v6 s5 =>
  gB1 (gck s5 v3 13) fun _ =>
  gB2 (f_J25_remove κ F v3 (v6 - (1 : Int32)) s5) fun v9 s8 =>
  gB1 (gcc s8 v9 7) fun _ =>
  gB1 (gpf κ s8 l0 0 0 (va_rf v9)) fun s12 =>
  gB1 (gfR s12 l0 0 1) fun v13 =>
  gB1 (gck s12 v13 13) fun _ =>
  gB2 (f_J25_size κ F v13  s12) fun v15 s14 =>
  some ((.inl v15), s14)
set_option maxHeartbeats 4000000 in
theorem w_X1_undo_15 {E : gE} {F z0 n0 : Nat} {r : (Int32 ⊕ String)} {s' : gS}   : ∀ (l0 : Option Nat) (t0 : Int32) (s : gS), f_X1_undo_15 (gk E) F  l0 t0 s = some (r, s') → W_X1_undo E z0 n0 r s' 15 [(0, vR l0)] [vI t0] s := by
  intro l0 t0 s hB
  unfold f_X1_undo_15 at hB
  refine gw_ldcS (own := "PageGarden") (tx := "nothing saved") (i := 23) rfl (by decide) dX1_undo_15 ?_
  rcases gB3_some hB with ⟨v2, s1, hv2, hB⟩ | ⟨Cv2, hv2, hzv2⟩
  rotate_left
  · subst hzv2
    exact gw_callS (y := yX1_requireState) (lw_S q2679 q2016 q108 q2017) hdS_X1_requireState (As := [vI t0, vR ((gk E).2 23)]) (rest := []) (m_X1_requireState _ _ _ _ _ hv2) (Nat.le_of_ble_eq_true rfl) (Nat.le_of_ble_eq_true rfl) rfl (Nat.le_of_ble_eq_true rfl) dX1_undo_17 (gCont_x (gx_out rfl rfl rfl))
  refine gw_callS (y := yX1_requireState) (lw_S q2679 q2016 q108 q2017) hdS_X1_requireState (As := [vI t0, vR ((gk E).2 23)]) (rest := []) (m_X1_requireState _ _ _ _ _ hv2) (Nat.le_of_ble_eq_true rfl) (Nat.le_of_ble_eq_true rfl) rfl (Nat.le_of_ble_eq_true rfl) dX1_undo_17 (gCont_v ?_)
  refine gw_aload_n 0 rfl dX1_undo_20 ?_
  refine gw_aload_n 0 rfl dX1_undo_21 ?_
  obtain ⟨v3, hv3, hB⟩ := gB1_some hB
  refine gw_getf (C := RX1) (T := TX1) (N := 4) (k := 1) gcl0 (by decide) in_X1 q1272 (gfR_spec hv3) dX1_undo_22 ?_
  refine gw_aload_n 0 rfl dX1_undo_25 ?_
  obtain ⟨v4, hv4, hB⟩ := gB1_some hB
  refine gw_getf (C := RX1) (T := TX1) (N := 4) (k := 1) gcl0 (by decide) in_X1 q1272 (gfR_spec hv4) dX1_undo_26 ?_
  obtain ⟨u0, hu7, hB⟩ := gB1_some hB
  obtain ⟨v6, s5, hv6, hB⟩ := gB2_some hB
  refine gw_callV (y := yJ25_size) (lw_V q2336 q2337 q2338 q142 q2339) hdV_J25_size gcl13 hu7 (As := []) (rest := [vR v3, vR l0]) (m_J25_size _ _ _ _ hv6) (Nat.le_of_ble_eq_true rfl) (Nat.le_of_ble_eq_true rfl) rfl (Nat.le_of_ble_eq_true rfl) dX1_undo_29 (gCont_i ?_)
  refine gw_iconst (v := (1 : Int32)) (by decide) dX1_undo_32 ?_
  refine gw_isub dX1_undo_33 ?_
  obtain ⟨u0, hu10, hB⟩ := gB1_some hB
  obtain ⟨v9, s8, hv9, hB⟩ := gB2_some hB
  refine gw_callV (y := yJ25_remove) (lw_V q2340 q2341 q2342 q142 q2343) hdV_J25_remove gcl13 hu10 (As := [vI (v6 - (1 : Int32))]) (rest := [vR l0]) (m_J25_remove _ _ _ _ _ hv9) (Nat.le_of_ble_eq_true rfl) (Nat.le_of_ble_eq_true rfl) rfl (Nat.le_of_ble_eq_true rfl) dX1_undo_34 (gCont_i ?_)
  obtain ⟨u0, hu11, hB⟩ := gB1_some hB
  refine gw_cast (C := RX3) gcl7 hu11 q189 (Or.inl rfl) dX1_undo_37 ?_
  obtain ⟨s12, hs12, hB⟩ := gB1_some hB
  refine gw_putf (C := RX1) (T := TX1) (N := 4) (k := 0) tyX1 tyX1_ok nmX1 gcl0 (by decide) in_X1 q1271 rfl (tyX1_ok 0 (by decide)) (gNF_o _ _) hs12 dX1_undo_40 ?_
  refine gw_aload_n 0 rfl dX1_undo_43 ?_
  obtain ⟨v13, hv13, hB⟩ := gB1_some hB
  refine gw_getf (C := RX1) (T := TX1) (N := 4) (k := 1) gcl0 (by decide) in_X1 q1272 (gfR_spec hv13) dX1_undo_44 ?_
  obtain ⟨u0, hu16, hB⟩ := gB1_some hB
  obtain ⟨v15, s14, hv15, hB⟩ := gB2_some hB
  refine gw_callV (y := yJ25_size) (lw_V q2336 q2337 q2338 q142 q2339) hdV_J25_size gcl13 hu16 (As := []) (rest := []) (m_J25_size _ _ _ _ hv15) (Nat.le_of_ble_eq_true rfl) (Nat.le_of_ble_eq_true rfl) rfl (Nat.le_of_ble_eq_true rfl) dX1_undo_47 (gCont_i ?_)
  obtain ⟨rfl, rfl⟩ := Prod.mk.inj (Option.some.inj hB)
  exact gw_iret rfl rfl rfl dX1_undo_50
noncomputable def f_X1_undo_0 (κ : gK) (F : Nat)  (l0 : Option Nat) (s : gS) : Option ((Int32 ⊕ String) × gS) :=
  gB1 (gfR s l0 0 1) fun v1 =>
  gB1 (gck s v1 13) fun _ =>
  gB2 (f_J25_size κ F v1  s) fun v3 s2 =>
  if v3 ≤ 0 then
    f_X1_undo_15 κ F  l0 (0 : Int32) s2
  else
    f_X1_undo_15 κ F  l0 (1 : Int32) s2
set_option maxHeartbeats 4000000 in
theorem w_X1_undo_0 {E : gE} {F z0 n0 : Nat} {r : (Int32 ⊕ String)} {s' : gS}   : ∀ (l0 : Option Nat)  (s : gS), f_X1_undo_0 (gk E) F  l0 s = some (r, s') → W_X1_undo E z0 n0 r s' 0 [(0, vR l0)] [] s := by
  intro l0 s hB
  unfold f_X1_undo_0 at hB
  refine gw_aload_n 0 rfl dX1_undo_0 ?_
  obtain ⟨v1, hv1, hB⟩ := gB1_some hB
  refine gw_getf (C := RX1) (T := TX1) (N := 4) (k := 1) gcl0 (by decide) in_X1 q1272 (gfR_spec hv1) dX1_undo_1 ?_
  obtain ⟨u0, hu4, hB⟩ := gB1_some hB
  obtain ⟨v3, s2, hv3, hB⟩ := gB2_some hB
  refine gw_callV (y := yJ25_size) (lw_V q2336 q2337 q2338 q142 q2339) hdV_J25_size gcl13 hu4 (As := []) (rest := []) (m_J25_size _ _ _ _ hv3) (Nat.le_of_ble_eq_true rfl) (Nat.le_of_ble_eq_true rfl) rfl (Nat.le_of_ble_eq_true rfl) dX1_undo_4 (gCont_i ?_)
  refine gw_if_le (tgt := 14) dX1_undo_7 (by decide) (fun hcnd => ?_) (fun hcnd => ?_)
  · rw [if_pos hcnd] at hB
    refine gw_iconst (v := (0 : Int32)) (by decide) dX1_undo_14 ?_
    exact gw_sub [0] rfl (w_X1_undo_15  _ _ _ hB)
  · rw [if_neg hcnd] at hB
    refine gw_iconst (v := (1 : Int32)) (by decide) dX1_undo_10 ?_
    refine gw_goto (tgt := 15) dX1_undo_11 (by decide) ?_
    exact gw_sub [0] rfl (w_X1_undo_15  _ _ _ hB)
noncomputable def f_X1_undo (κ : gK) (F : Nat) (a0 : Option Nat) (s : gS) : Option ((Int32 ⊕ String) × gS) := f_X1_undo_0 κ F a0 s
theorem m_X1_undo {E : gE} {F : Nat} (a0 : Option Nat) (s : gS) (r : (Int32 ⊕ String)) (s' : gS) (h : f_X1_undo (gk E) F a0 s = some (r, s')) : gCT E 10 yX1_undo (ws_ yX1_undo cX1_undo 1 (some FieldType.int)) [vR a0] s (gOi r) s' := by
  refine gCT_of2 (fun h => absurd h (by decide)) (plainFor_of_name (by decide)) (Nat.le_of_ble_eq_true rfl) ?_
  exact gw_sub [0] rfl (w_X1_undo_0 _ _ h)
def dkwX1_whole_0 : List UInt8 := [27, 16, 15, 184, 0, 176, 42, 27, 182, 0, 201, 172]
abbrev dktX1_whole_0 : List UInt8 := dkwX1_whole_0 ++ []
theorem dksX1_whole_0 : cX1_whole.data.toList.drop 0 = dktX1_whole_0 := by decide +kernel
theorem dX1_whole_0 : decode cX1_whole 0 = .ok (.iload_n 1, 1) := dk_27 (dk_at dksX1_whole_0 0 rfl rfl)
theorem dX1_whole_1 : decode cX1_whole 1 = .ok (.bipush 15, 2) := dk_16 15 (dk_at dksX1_whole_0 1 rfl rfl)
theorem dX1_whole_3 : decode cX1_whole 3 = .ok (.invokestatic 176, 3) := dk_184 0 176 (dk_at dksX1_whole_0 3 rfl rfl)
theorem dX1_whole_6 : decode cX1_whole 6 = .ok (.aload_n 0, 1) := dk_42 (dk_at dksX1_whole_0 6 rfl rfl)
theorem dX1_whole_7 : decode cX1_whole 7 = .ok (.iload_n 1, 1) := dk_27 (dk_at dksX1_whole_0 7 rfl rfl)
theorem dX1_whole_8 : decode cX1_whole 8 = .ok (.invokevirtual 201, 3) := dk_182 0 201 (dk_at dksX1_whole_0 8 rfl rfl)
theorem dX1_whole_11 : decode cX1_whole 11 = .ok (.ireturn, 1) := dk_172 (dk_at dksX1_whole_0 11 rfl rfl)
/-! PageGarden.whole(I)I -/
abbrev M_X1_whole (z0 n0 : Nat) (s' : gS) : gM := (RX1, cX1_whole, 2, (some FieldType.int), "whole", [], 11, z0, n0, s'.2.1, s'.2.2)
abbrev W_X1_whole (E : gE) (z0 n0 : Nat) (r : (Int32 ⊕ String)) (s' : gS) (pc : Nat) (L : List (Nat × gV)) (st : List gV) (s : gS) : Prop := gW E (M_X1_whole z0 n0 s') (gQm E (M_X1_whole z0 n0 s') (gOi r) s') pc L st s
noncomputable def f_X1_whole_0 (κ : gK) (F : Nat)  (l0 : Option Nat) (l1 : Int32) (s : gS) : Option ((Int32 ⊕ String) × gS) :=
  gB3 (f_X1_requireWhat κ F l1 (15 : Int32) s) fun v2 s1 =>
  gB1 (gck s1 l0 0) fun _ =>
  gB2 (f_X1_wholeOf κ F l0 l1 s1) fun v4 s3 =>
  some ((.inl v4), s3)
set_option maxHeartbeats 4000000 in
theorem w_X1_whole_0 {E : gE} {F z0 n0 : Nat} {r : (Int32 ⊕ String)} {s' : gS}   : ∀ (l0 : Option Nat) (l1 : Int32)  (s : gS), f_X1_whole_0 (gk E) F  l0 l1 s = some (r, s') → W_X1_whole E z0 n0 r s' 0 [(0, vR l0), (1, vI l1)] [] s := by
  intro l0 l1 s hB
  unfold f_X1_whole_0 at hB
  refine gw_iload_n 1 rfl dX1_whole_0 ?_
  refine gw_bipush (v := (15 : Int32)) (by decide) dX1_whole_1 ?_
  rcases gB3_some hB with ⟨v2, s1, hv2, hB⟩ | ⟨Cv2, hv2, hzv2⟩
  rotate_left
  · subst hzv2
    exact gw_callS (y := yX1_requireWhat) (lw_S q2585 q2586 q108 q2587) hdS_X1_requireWhat (As := [vI l1, vI (15 : Int32)]) (rest := []) (m_X1_requireWhat _ _ _ _ _ hv2) (Nat.le_of_ble_eq_true rfl) (Nat.le_of_ble_eq_true rfl) rfl (Nat.le_of_ble_eq_true rfl) dX1_whole_3 (gCont_x (gx_out rfl rfl rfl))
  refine gw_callS (y := yX1_requireWhat) (lw_S q2585 q2586 q108 q2587) hdS_X1_requireWhat (As := [vI l1, vI (15 : Int32)]) (rest := []) (m_X1_requireWhat _ _ _ _ _ hv2) (Nat.le_of_ble_eq_true rfl) (Nat.le_of_ble_eq_true rfl) rfl (Nat.le_of_ble_eq_true rfl) dX1_whole_3 (gCont_v ?_)
  refine gw_aload_n 0 rfl dX1_whole_6 ?_
  refine gw_iload_n 1 rfl dX1_whole_7 ?_
  obtain ⟨u0, hu5, hB⟩ := gB1_some hB
  obtain ⟨v4, s3, hv4, hB⟩ := gB2_some hB
  refine gw_callV (y := yX1_wholeOf) (lw_V q2391 q2393 qs41 q108 q2394) hdV_X1_wholeOf gcl0 hu5 (As := [vI l1]) (rest := []) (m_X1_wholeOf _ _ _ _ _ hv4) (Nat.le_of_ble_eq_true rfl) (Nat.le_of_ble_eq_true rfl) rfl (Nat.le_of_ble_eq_true rfl) dX1_whole_8 (gCont_i ?_)
  obtain ⟨rfl, rfl⟩ := Prod.mk.inj (Option.some.inj hB)
  exact gw_iret rfl rfl rfl dX1_whole_11
noncomputable def f_X1_whole (κ : gK) (F : Nat) (a0 : Option Nat) (a1 : Int32) (s : gS) : Option ((Int32 ⊕ String) × gS) := f_X1_whole_0 κ F a0 a1 s
theorem m_X1_whole {E : gE} {F : Nat} (a0 : Option Nat) (a1 : Int32) (s : gS) (r : (Int32 ⊕ String)) (s' : gS) (h : f_X1_whole (gk E) F a0 a1 s = some (r, s')) : gCT E 11 yX1_whole (ws_ yX1_whole cX1_whole 2 (some FieldType.int)) [vR a0, vI a1] s (gOi r) s' := by
  refine gCT_of2 (fun h => absurd h (by decide)) (plainFor_of_name (by decide)) (Nat.le_of_ble_eq_true rfl) ?_
  exact gw_sub [0, 1] rfl (w_X1_whole_0 _ _ _ h)
def dkwX0_abort_0 : List UInt8 := [43, 3, 42, 182, 0, 28, 133, 80, 167, 0, 6, 77, 4, 172, 3, 172]
abbrev dktX0_abort_0 : List UInt8 := dkwX0_abort_0 ++ []
theorem dksX0_abort_0 : cX0_abort.data.toList.drop 0 = dktX0_abort_0 := by decide +kernel
theorem dX0_abort_0 : decode cX0_abort 0 = .ok (.aload_n 1, 1) := dk_43 (dk_at dksX0_abort_0 0 rfl rfl)
theorem dX0_abort_1 : decode cX0_abort 1 = .ok (.iconst 0, 1) := dk_3 (dk_at dksX0_abort_0 1 rfl rfl)
theorem dX0_abort_2 : decode cX0_abort 2 = .ok (.aload_n 0, 1) := dk_42 (dk_at dksX0_abort_0 2 rfl rfl)
theorem dX0_abort_3 : decode cX0_abort 3 = .ok (.invokevirtual 28, 3) := dk_182 0 28 (dk_at dksX0_abort_0 3 rfl rfl)
theorem dX0_abort_6 : decode cX0_abort 6 = .ok (.i2l, 1) := dk_133 (dk_at dksX0_abort_0 6 rfl rfl)
theorem dX0_abort_7 : decode cX0_abort 7 = .ok (.lastore, 1) := dk_80 (dk_at dksX0_abort_0 7 rfl rfl)
theorem dX0_abort_8 : decode cX0_abort 8 = .ok (.goto 6, 3) := dk_167 0 6 (dk_at dksX0_abort_0 8 rfl rfl)
theorem dX0_abort_11 : decode cX0_abort 11 = .ok (.astore_n 2, 1) := dk_77 (dk_at dksX0_abort_0 11 rfl rfl)
theorem dX0_abort_12 : decode cX0_abort 12 = .ok (.iconst 1, 1) := dk_4 (dk_at dksX0_abort_0 12 rfl rfl)
theorem dX0_abort_13 : decode cX0_abort 13 = .ok (.ireturn, 1) := dk_172 (dk_at dksX0_abort_0 13 rfl rfl)
theorem dX0_abort_14 : decode cX0_abort 14 = .ok (.iconst 0, 1) := dk_3 (dk_at dksX0_abort_0 14 rfl rfl)
theorem dX0_abort_15 : decode cX0_abort 15 = .ok (.ireturn, 1) := dk_172 (dk_at dksX0_abort_0 15 rfl rfl)
/-! PageGardenLaw.abort(LPageGarden;[J)I -/
abbrev M_X0_abort (z0 n0 : Nat) (s' : gS) : gM := (RX0, cX0_abort, 3, (some FieldType.int), "abort", tableOf [(0, 8, 11, 13)], 13, z0, n0, s'.2.1, s'.2.2)
abbrev W_X0_abort (E : gE) (z0 n0 : Nat) (r : Int32) (s' : gS) (pc : Nat) (L : List (Nat × gV)) (st : List gV) (s : gS) : Prop := gW E (M_X0_abort z0 n0 s') (gQm E (M_X0_abort z0 n0 s') (.inl (some (vI r))) s') pc L st s
noncomputable def f_X0_abort_11 (κ : gK) (F : Nat)   (s : gS) : Option (Int32 × gS) :=
  some ((1 : Int32), s)
set_option maxHeartbeats 4000000 in
theorem w_X0_abort_11 {E : gE} {F z0 n0 : Nat} {r : Int32} {s' : gS}   : ∀   (q : Option Nat) (s : gS), f_X0_abort_11 (gk E) F   s = some (r, s') → W_X0_abort E z0 n0 r s' 11 [] [vR q] s := by
  intro  q s hB
  unfold f_X0_abort_11 at hB
  refine gw_astore_n (L' := [(2, vR q)]) (Nat.le_of_ble_eq_true rfl) rfl dX0_abort_11 ?_
  refine gw_iconst (v := (1 : Int32)) (by decide) dX0_abort_12 ?_
  obtain ⟨rfl, rfl⟩ := Prod.mk.inj (Option.some.inj hB)
  exact gw_iret rfl rfl rfl dX0_abort_13
noncomputable def f_X0_abort_0 (κ : gK) (F : Nat)  (l0 : Option Nat) (l1 : Option Nat) (s : gS) : Option (Int32 × gS) :=
  gB1 (gck s l0 0) fun _ =>
  gBy (f_X1_abort κ F l0  s) (fun Cv2 s1 =>
    if Cv2 = "java/lang/IllegalStateException" then f_X0_abort_11 κ F  s1 else
    none) <| fun v2 s1 =>
  gB1 (gsJ κ s1 l1 (0 : Int32) (v2.toInt64)) fun s4 =>
  some ((0 : Int32), s4)
set_option maxHeartbeats 4000000 in
theorem w_X0_abort_0 {E : gE} {F z0 n0 : Nat} {r : Int32} {s' : gS}   : ∀ (l0 : Option Nat) (l1 : Option Nat)  (s : gS), f_X0_abort_0 (gk E) F  l0 l1 s = some (r, s') → W_X0_abort E z0 n0 r s' 0 [(0, vR l0), (1, vR l1)] [] s := by
  intro l0 l1 s hB
  unfold f_X0_abort_0 at hB
  refine gw_aload_n 1 rfl dX0_abort_0 ?_
  refine gw_iconst (v := (0 : Int32)) (by decide) dX0_abort_1 ?_
  refine gw_aload_n 0 rfl dX0_abort_2 ?_
  obtain ⟨u0, hu3, hB⟩ := gB1_some hB
  rcases gBy_some hB with ⟨v2, s1, hv2, hB⟩ | ⟨Cv2, s1, hv2, hB⟩
  rotate_left
  · by_cases hc0 : Cv2 = "java/lang/IllegalStateException"
    · rw [if_pos hc0] at hB
      subst hc0
      exact gw_callV (y := yX1_abort) (lw_V q2527 q2528 q2529 q108 q2530) hdV_X1_abort gcl0 hu3 (As := []) (rest := [vI (0 : Int32), vR l1]) (m_X1_abort _ _ _ _ hv2) (Nat.le_of_ble_eq_true rfl) (Nat.le_of_ble_eq_true rfl) rfl (Nat.le_of_ble_eq_true rfl) dX0_abort_3 (gCont_x (gx_catch (own := "PageGardenLaw") rfl [] ⟨0, 8, 11, 13⟩ [] rfl (fun z hz => by cases hz) rfl (by decide) q2497 q2020 (tgt := 11) rfl (fun q => gw_sub [] rfl (w_X0_abort_11  q _ hB))))
    · rw [if_neg hc0] at hB
      cases hB
  refine gw_callV (y := yX1_abort) (lw_V q2527 q2528 q2529 q108 q2530) hdV_X1_abort gcl0 hu3 (As := []) (rest := [vI (0 : Int32), vR l1]) (m_X1_abort _ _ _ _ hv2) (Nat.le_of_ble_eq_true rfl) (Nat.le_of_ble_eq_true rfl) rfl (Nat.le_of_ble_eq_true rfl) dX0_abort_3 (gCont_i ?_)
  refine gw_i2l dX0_abort_6 ?_
  obtain ⟨s4, hs4, hB⟩ := gB1_some hB
  refine gw_lastore hs4 dX0_abort_7 ?_
  refine gw_goto (tgt := 14) dX0_abort_8 (by decide) ?_
  refine gw_iconst (v := (0 : Int32)) (by decide) dX0_abort_14 ?_
  obtain ⟨rfl, rfl⟩ := Prod.mk.inj (Option.some.inj hB)
  exact gw_iret rfl rfl rfl dX0_abort_15
noncomputable def f_X0_abort (κ : gK) (F : Nat) (a1 : Option Nat) (a2 : Option Nat) (s : gS) : Option (Int32 × gS) := f_X0_abort_0 κ F a1 a2 s
theorem m_X0_abort {E : gE} {F : Nat} (a1 : Option Nat) (a2 : Option Nat) (s : gS) (r : Int32) (s' : gS) (h : f_X0_abort (gk E) F a1 a2 s = some (r, s')) : gCT E 13 yX0_abort (wsW_ yX0_abort cX0_abort 3 (some FieldType.int) [(0, 8, 11, 13)]) [vR a1, vR a2] s (.inl (some (vI r))) s' := by
  refine gCT_ofH (fun h => absurd h (by decide)) (by decide) (Nat.le_of_ble_eq_true rfl) ?_
  exact gw_sub [0, 1] rfl (w_X0_abort_0 _ _ _ h)
def dkwX0_bed_0 : List UInt8 := [45, 3, 42, 27, 28, 182, 0, 57, 133, 80, 167, 0, 11, 58, 4, 4, 172, 58, 4, 5, 172, 3, 172]
abbrev dktX0_bed_0 : List UInt8 := dkwX0_bed_0 ++ []
theorem dksX0_bed_0 : cX0_bed.data.toList.drop 0 = dktX0_bed_0 := by decide +kernel
theorem dX0_bed_0 : decode cX0_bed 0 = .ok (.aload_n 3, 1) := dk_45 (dk_at dksX0_bed_0 0 rfl rfl)
theorem dX0_bed_1 : decode cX0_bed 1 = .ok (.iconst 0, 1) := dk_3 (dk_at dksX0_bed_0 1 rfl rfl)
theorem dX0_bed_2 : decode cX0_bed 2 = .ok (.aload_n 0, 1) := dk_42 (dk_at dksX0_bed_0 2 rfl rfl)
theorem dX0_bed_3 : decode cX0_bed 3 = .ok (.iload_n 1, 1) := dk_27 (dk_at dksX0_bed_0 3 rfl rfl)
theorem dX0_bed_4 : decode cX0_bed 4 = .ok (.iload_n 2, 1) := dk_28 (dk_at dksX0_bed_0 4 rfl rfl)
theorem dX0_bed_5 : decode cX0_bed 5 = .ok (.invokevirtual 57, 3) := dk_182 0 57 (dk_at dksX0_bed_0 5 rfl rfl)
theorem dX0_bed_8 : decode cX0_bed 8 = .ok (.i2l, 1) := dk_133 (dk_at dksX0_bed_0 8 rfl rfl)
theorem dX0_bed_9 : decode cX0_bed 9 = .ok (.lastore, 1) := dk_80 (dk_at dksX0_bed_0 9 rfl rfl)
theorem dX0_bed_10 : decode cX0_bed 10 = .ok (.goto 11, 3) := dk_167 0 11 (dk_at dksX0_bed_0 10 rfl rfl)
theorem dX0_bed_13 : decode cX0_bed 13 = .ok (.astore 4, 2) := dk_58 4 (dk_at dksX0_bed_0 13 rfl rfl)
theorem dX0_bed_15 : decode cX0_bed 15 = .ok (.iconst 1, 1) := dk_4 (dk_at dksX0_bed_0 15 rfl rfl)
theorem dX0_bed_16 : decode cX0_bed 16 = .ok (.ireturn, 1) := dk_172 (dk_at dksX0_bed_0 16 rfl rfl)
theorem dX0_bed_17 : decode cX0_bed 17 = .ok (.astore 4, 2) := dk_58 4 (dk_at dksX0_bed_0 17 rfl rfl)
theorem dX0_bed_19 : decode cX0_bed 19 = .ok (.iconst 2, 1) := dk_5 (dk_at dksX0_bed_0 19 rfl rfl)
theorem dX0_bed_20 : decode cX0_bed 20 = .ok (.ireturn, 1) := dk_172 (dk_at dksX0_bed_0 20 rfl rfl)
theorem dX0_bed_21 : decode cX0_bed 21 = .ok (.iconst 0, 1) := dk_3 (dk_at dksX0_bed_0 21 rfl rfl)
theorem dX0_bed_22 : decode cX0_bed 22 = .ok (.ireturn, 1) := dk_172 (dk_at dksX0_bed_0 22 rfl rfl)
/-! PageGardenLaw.bed(LPageGarden;II[J)I -/
abbrev M_X0_bed (z0 n0 : Nat) (s' : gS) : gM := (RX0, cX0_bed, 5, (some FieldType.int), "bed", tableOf [(0, 10, 13, 37), (0, 10, 17, 19)], 12, z0, n0, s'.2.1, s'.2.2)
abbrev W_X0_bed (E : gE) (z0 n0 : Nat) (r : Int32) (s' : gS) (pc : Nat) (L : List (Nat × gV)) (st : List gV) (s : gS) : Prop := gW E (M_X0_bed z0 n0 s') (gQm E (M_X0_bed z0 n0 s') (.inl (some (vI r))) s') pc L st s
noncomputable def f_X0_bed_13 (κ : gK) (F : Nat)   (s : gS) : Option (Int32 × gS) :=
  some ((1 : Int32), s)
set_option maxHeartbeats 4000000 in
theorem w_X0_bed_13 {E : gE} {F z0 n0 : Nat} {r : Int32} {s' : gS}   : ∀   (q : Option Nat) (s : gS), f_X0_bed_13 (gk E) F   s = some (r, s') → W_X0_bed E z0 n0 r s' 13 [] [vR q] s := by
  intro  q s hB
  unfold f_X0_bed_13 at hB
  refine gw_astore (L' := [(4, vR q)]) (Nat.le_of_ble_eq_true rfl) rfl dX0_bed_13 ?_
  refine gw_iconst (v := (1 : Int32)) (by decide) dX0_bed_15 ?_
  obtain ⟨rfl, rfl⟩ := Prod.mk.inj (Option.some.inj hB)
  exact gw_iret rfl rfl rfl dX0_bed_16
noncomputable def f_X0_bed_17 (κ : gK) (F : Nat)   (s : gS) : Option (Int32 × gS) :=
  some ((2 : Int32), s)
set_option maxHeartbeats 4000000 in
theorem w_X0_bed_17 {E : gE} {F z0 n0 : Nat} {r : Int32} {s' : gS}   : ∀   (q : Option Nat) (s : gS), f_X0_bed_17 (gk E) F   s = some (r, s') → W_X0_bed E z0 n0 r s' 17 [] [vR q] s := by
  intro  q s hB
  unfold f_X0_bed_17 at hB
  refine gw_astore (L' := [(4, vR q)]) (Nat.le_of_ble_eq_true rfl) rfl dX0_bed_17 ?_
  refine gw_iconst (v := (2 : Int32)) (by decide) dX0_bed_19 ?_
  obtain ⟨rfl, rfl⟩ := Prod.mk.inj (Option.some.inj hB)
  exact gw_iret rfl rfl rfl dX0_bed_20
noncomputable def f_X0_bed_0 (κ : gK) (F : Nat)  (l0 : Option Nat) (l1 : Int32) (l2 : Int32) (l3 : Option Nat) (s : gS) : Option (Int32 × gS) :=
  gB1 (gck s l0 0) fun _ =>
  gBy (f_X1_bed κ F l0 l1 l2 s) (fun Cv2 s1 =>
    if Cv2 = "java/lang/IndexOutOfBoundsException" then f_X0_bed_13 κ F  s1 else
    if Cv2 = "java/lang/IllegalArgumentException" then f_X0_bed_17 κ F  s1 else
    none) <| fun v2 s1 =>
  gB1 (gsJ κ s1 l3 (0 : Int32) (v2.toInt64)) fun s4 =>
  some ((0 : Int32), s4)
set_option maxHeartbeats 4000000 in
theorem w_X0_bed_0 {E : gE} {F z0 n0 : Nat} {r : Int32} {s' : gS}   : ∀ (l0 : Option Nat) (l1 : Int32) (l2 : Int32) (l3 : Option Nat)  (s : gS), f_X0_bed_0 (gk E) F  l0 l1 l2 l3 s = some (r, s') → W_X0_bed E z0 n0 r s' 0 [(0, vR l0), (1, vI l1), (2, vI l2), (3, vR l3)] [] s := by
  intro l0 l1 l2 l3 s hB
  unfold f_X0_bed_0 at hB
  refine gw_aload_n 3 rfl dX0_bed_0 ?_
  refine gw_iconst (v := (0 : Int32)) (by decide) dX0_bed_1 ?_
  refine gw_aload_n 0 rfl dX0_bed_2 ?_
  refine gw_iload_n 1 rfl dX0_bed_3 ?_
  refine gw_iload_n 2 rfl dX0_bed_4 ?_
  obtain ⟨u0, hu3, hB⟩ := gB1_some hB
  rcases gBy_some hB with ⟨v2, s1, hv2, hB⟩ | ⟨Cv2, s1, hv2, hB⟩
  rotate_left
  · by_cases hc0 : Cv2 = "java/lang/IndexOutOfBoundsException"
    · rw [if_pos hc0] at hB
      subst hc0
      exact gw_callV (y := yX1_bed) (lw_V q2608 q2609 q2610 q108 q2611) hdV_X1_bed gcl0 hu3 (As := [vI l1, vI l2]) (rest := [vI (0 : Int32), vR l3]) (m_X1_bed _ _ _ _ _ _ hv2) (Nat.le_of_ble_eq_true rfl) (Nat.le_of_ble_eq_true rfl) rfl (Nat.le_of_ble_eq_true rfl) dX0_bed_5 (gCont_x (gx_catch (own := "PageGardenLaw") rfl [] ⟨0, 10, 13, 37⟩ [⟨0, 10, 17, 19⟩] rfl (fun z hz => by cases hz) rfl (by decide) q2541 q2286 (tgt := 13) rfl (fun q => gw_sub [] rfl (w_X0_bed_13  q _ hB))))
    · rw [if_neg hc0] at hB
      by_cases hc1 : Cv2 = "java/lang/IllegalArgumentException"
      · rw [if_pos hc1] at hB
        subst hc1
        exact gw_callV (y := yX1_bed) (lw_V q2608 q2609 q2610 q108 q2611) hdV_X1_bed gcl0 hu3 (As := [vI l1, vI l2]) (rest := [vI (0 : Int32), vR l3]) (m_X1_bed _ _ _ _ _ _ hv2) (Nat.le_of_ble_eq_true rfl) (Nat.le_of_ble_eq_true rfl) rfl (Nat.le_of_ble_eq_true rfl) dX0_bed_5 (gCont_x (gx_catch (own := "PageGardenLaw") rfl [⟨0, 10, 13, 37⟩] ⟨0, 10, 17, 19⟩ [] rfl (fun z hz => by
          rcases List.mem_cons.mp hz with rfl | hz
          · exact Or.inr ⟨by decide, "java/lang/IndexOutOfBoundsException", q2541, by decide⟩
          cases hz) rfl (by decide) q2505 q430 (tgt := 17) rfl (fun q => gw_sub [] rfl (w_X0_bed_17  q _ hB))))
      · rw [if_neg hc1] at hB
        cases hB
  refine gw_callV (y := yX1_bed) (lw_V q2608 q2609 q2610 q108 q2611) hdV_X1_bed gcl0 hu3 (As := [vI l1, vI l2]) (rest := [vI (0 : Int32), vR l3]) (m_X1_bed _ _ _ _ _ _ hv2) (Nat.le_of_ble_eq_true rfl) (Nat.le_of_ble_eq_true rfl) rfl (Nat.le_of_ble_eq_true rfl) dX0_bed_5 (gCont_i ?_)
  refine gw_i2l dX0_bed_8 ?_
  obtain ⟨s4, hs4, hB⟩ := gB1_some hB
  refine gw_lastore hs4 dX0_bed_9 ?_
  refine gw_goto (tgt := 21) dX0_bed_10 (by decide) ?_
  refine gw_iconst (v := (0 : Int32)) (by decide) dX0_bed_21 ?_
  obtain ⟨rfl, rfl⟩ := Prod.mk.inj (Option.some.inj hB)
  exact gw_iret rfl rfl rfl dX0_bed_22
noncomputable def f_X0_bed (κ : gK) (F : Nat) (a1 : Option Nat) (a2 : Int32) (a3 : Int32) (a4 : Option Nat) (s : gS) : Option (Int32 × gS) := f_X0_bed_0 κ F a1 a2 a3 a4 s
theorem m_X0_bed {E : gE} {F : Nat} (a1 : Option Nat) (a2 : Int32) (a3 : Int32) (a4 : Option Nat) (s : gS) (r : Int32) (s' : gS) (h : f_X0_bed (gk E) F a1 a2 a3 a4 s = some (r, s')) : gCT E 12 yX0_bed (wsW_ yX0_bed cX0_bed 5 (some FieldType.int) [(0, 10, 13, 37), (0, 10, 17, 19)]) [vR a1, vI a2, vI a3, vR a4] s (.inl (some (vI r))) s' := by
  refine gCT_ofH (fun h => absurd h (by decide)) (by decide) (Nat.le_of_ble_eq_true rfl) ?_
  exact gw_sub [0, 1, 2, 3] rfl (w_X0_bed_0 _ _ _ _ _ h)
def dkwX0_bedsFor_0 : List UInt8 := [44, 3, 42, 27, 182, 0, 63, 133, 80, 167, 0, 9, 78, 4, 172, 78, 5, 172, 3, 172]
abbrev dktX0_bedsFor_0 : List UInt8 := dkwX0_bedsFor_0 ++ []
theorem dksX0_bedsFor_0 : cX0_bedsFor.data.toList.drop 0 = dktX0_bedsFor_0 := by decide +kernel
theorem dX0_bedsFor_0 : decode cX0_bedsFor 0 = .ok (.aload_n 2, 1) := dk_44 (dk_at dksX0_bedsFor_0 0 rfl rfl)
theorem dX0_bedsFor_1 : decode cX0_bedsFor 1 = .ok (.iconst 0, 1) := dk_3 (dk_at dksX0_bedsFor_0 1 rfl rfl)
theorem dX0_bedsFor_2 : decode cX0_bedsFor 2 = .ok (.aload_n 0, 1) := dk_42 (dk_at dksX0_bedsFor_0 2 rfl rfl)
theorem dX0_bedsFor_3 : decode cX0_bedsFor 3 = .ok (.iload_n 1, 1) := dk_27 (dk_at dksX0_bedsFor_0 3 rfl rfl)
theorem dX0_bedsFor_4 : decode cX0_bedsFor 4 = .ok (.invokevirtual 63, 3) := dk_182 0 63 (dk_at dksX0_bedsFor_0 4 rfl rfl)
theorem dX0_bedsFor_7 : decode cX0_bedsFor 7 = .ok (.i2l, 1) := dk_133 (dk_at dksX0_bedsFor_0 7 rfl rfl)
theorem dX0_bedsFor_8 : decode cX0_bedsFor 8 = .ok (.lastore, 1) := dk_80 (dk_at dksX0_bedsFor_0 8 rfl rfl)
theorem dX0_bedsFor_9 : decode cX0_bedsFor 9 = .ok (.goto 9, 3) := dk_167 0 9 (dk_at dksX0_bedsFor_0 9 rfl rfl)
theorem dX0_bedsFor_12 : decode cX0_bedsFor 12 = .ok (.astore_n 3, 1) := dk_78 (dk_at dksX0_bedsFor_0 12 rfl rfl)
theorem dX0_bedsFor_13 : decode cX0_bedsFor 13 = .ok (.iconst 1, 1) := dk_4 (dk_at dksX0_bedsFor_0 13 rfl rfl)
theorem dX0_bedsFor_14 : decode cX0_bedsFor 14 = .ok (.ireturn, 1) := dk_172 (dk_at dksX0_bedsFor_0 14 rfl rfl)
theorem dX0_bedsFor_15 : decode cX0_bedsFor 15 = .ok (.astore_n 3, 1) := dk_78 (dk_at dksX0_bedsFor_0 15 rfl rfl)
theorem dX0_bedsFor_16 : decode cX0_bedsFor 16 = .ok (.iconst 2, 1) := dk_5 (dk_at dksX0_bedsFor_0 16 rfl rfl)
theorem dX0_bedsFor_17 : decode cX0_bedsFor 17 = .ok (.ireturn, 1) := dk_172 (dk_at dksX0_bedsFor_0 17 rfl rfl)
theorem dX0_bedsFor_18 : decode cX0_bedsFor 18 = .ok (.iconst 0, 1) := dk_3 (dk_at dksX0_bedsFor_0 18 rfl rfl)
theorem dX0_bedsFor_19 : decode cX0_bedsFor 19 = .ok (.ireturn, 1) := dk_172 (dk_at dksX0_bedsFor_0 19 rfl rfl)
/-! PageGardenLaw.bedsFor(LPageGarden;I[J)I -/
abbrev M_X0_bedsFor (z0 n0 : Nat) (s' : gS) : gM := (RX0, cX0_bedsFor, 4, (some FieldType.int), "bedsFor", tableOf [(0, 9, 12, 19), (0, 9, 15, 13)], 13, z0, n0, s'.2.1, s'.2.2)
abbrev W_X0_bedsFor (E : gE) (z0 n0 : Nat) (r : Int32) (s' : gS) (pc : Nat) (L : List (Nat × gV)) (st : List gV) (s : gS) : Prop := gW E (M_X0_bedsFor z0 n0 s') (gQm E (M_X0_bedsFor z0 n0 s') (.inl (some (vI r))) s') pc L st s
noncomputable def f_X0_bedsFor_12 (κ : gK) (F : Nat)   (s : gS) : Option (Int32 × gS) :=
  some ((1 : Int32), s)
set_option maxHeartbeats 4000000 in
theorem w_X0_bedsFor_12 {E : gE} {F z0 n0 : Nat} {r : Int32} {s' : gS}   : ∀   (q : Option Nat) (s : gS), f_X0_bedsFor_12 (gk E) F   s = some (r, s') → W_X0_bedsFor E z0 n0 r s' 12 [] [vR q] s := by
  intro  q s hB
  unfold f_X0_bedsFor_12 at hB
  refine gw_astore_n (L' := [(3, vR q)]) (Nat.le_of_ble_eq_true rfl) rfl dX0_bedsFor_12 ?_
  refine gw_iconst (v := (1 : Int32)) (by decide) dX0_bedsFor_13 ?_
  obtain ⟨rfl, rfl⟩ := Prod.mk.inj (Option.some.inj hB)
  exact gw_iret rfl rfl rfl dX0_bedsFor_14
noncomputable def f_X0_bedsFor_15 (κ : gK) (F : Nat)   (s : gS) : Option (Int32 × gS) :=
  some ((2 : Int32), s)
set_option maxHeartbeats 4000000 in
theorem w_X0_bedsFor_15 {E : gE} {F z0 n0 : Nat} {r : Int32} {s' : gS}   : ∀   (q : Option Nat) (s : gS), f_X0_bedsFor_15 (gk E) F   s = some (r, s') → W_X0_bedsFor E z0 n0 r s' 15 [] [vR q] s := by
  intro  q s hB
  unfold f_X0_bedsFor_15 at hB
  refine gw_astore_n (L' := [(3, vR q)]) (Nat.le_of_ble_eq_true rfl) rfl dX0_bedsFor_15 ?_
  refine gw_iconst (v := (2 : Int32)) (by decide) dX0_bedsFor_16 ?_
  obtain ⟨rfl, rfl⟩ := Prod.mk.inj (Option.some.inj hB)
  exact gw_iret rfl rfl rfl dX0_bedsFor_17
noncomputable def f_X0_bedsFor_0 (κ : gK) (F : Nat)  (l0 : Option Nat) (l1 : Int32) (l2 : Option Nat) (s : gS) : Option (Int32 × gS) :=
  gB1 (gck s l0 0) fun _ =>
  gBy (f_X1_bedsFor κ F l0 l1 s) (fun Cv2 s1 =>
    if Cv2 = "java/lang/IllegalArgumentException" then f_X0_bedsFor_12 κ F  s1 else
    if Cv2 = "java/lang/IllegalStateException" then f_X0_bedsFor_15 κ F  s1 else
    none) <| fun v2 s1 =>
  gB1 (gsJ κ s1 l2 (0 : Int32) (v2.toInt64)) fun s4 =>
  some ((0 : Int32), s4)
set_option maxHeartbeats 4000000 in
theorem w_X0_bedsFor_0 {E : gE} {F z0 n0 : Nat} {r : Int32} {s' : gS}   : ∀ (l0 : Option Nat) (l1 : Int32) (l2 : Option Nat)  (s : gS), f_X0_bedsFor_0 (gk E) F  l0 l1 l2 s = some (r, s') → W_X0_bedsFor E z0 n0 r s' 0 [(0, vR l0), (1, vI l1), (2, vR l2)] [] s := by
  intro l0 l1 l2 s hB
  unfold f_X0_bedsFor_0 at hB
  refine gw_aload_n 2 rfl dX0_bedsFor_0 ?_
  refine gw_iconst (v := (0 : Int32)) (by decide) dX0_bedsFor_1 ?_
  refine gw_aload_n 0 rfl dX0_bedsFor_2 ?_
  refine gw_iload_n 1 rfl dX0_bedsFor_3 ?_
  obtain ⟨u0, hu3, hB⟩ := gB1_some hB
  rcases gBy_some hB with ⟨v2, s1, hv2, hB⟩ | ⟨Cv2, s1, hv2, hB⟩
  rotate_left
  · by_cases hc0 : Cv2 = "java/lang/IllegalArgumentException"
    · rw [if_pos hc0] at hB
      subst hc0
      exact gw_callV (y := yX1_bedsFor) (lw_V q2623 q2624 q2625 q108 q2626) hdV_X1_bedsFor gcl0 hu3 (As := [vI l1]) (rest := [vI (0 : Int32), vR l2]) (m_X1_bedsFor _ _ _ _ _ hv2) (Nat.le_of_ble_eq_true rfl) (Nat.le_of_ble_eq_true rfl) rfl (Nat.le_of_ble_eq_true rfl) dX0_bedsFor_4 (gCont_x (gx_catch (own := "PageGardenLaw") rfl [] ⟨0, 9, 12, 19⟩ [⟨0, 9, 15, 13⟩] rfl (fun z hz => by cases hz) rfl (by decide) q2505 q430 (tgt := 12) rfl (fun q => gw_sub [] rfl (w_X0_bedsFor_12  q _ hB))))
    · rw [if_neg hc0] at hB
      by_cases hc1 : Cv2 = "java/lang/IllegalStateException"
      · rw [if_pos hc1] at hB
        subst hc1
        exact gw_callV (y := yX1_bedsFor) (lw_V q2623 q2624 q2625 q108 q2626) hdV_X1_bedsFor gcl0 hu3 (As := [vI l1]) (rest := [vI (0 : Int32), vR l2]) (m_X1_bedsFor _ _ _ _ _ hv2) (Nat.le_of_ble_eq_true rfl) (Nat.le_of_ble_eq_true rfl) rfl (Nat.le_of_ble_eq_true rfl) dX0_bedsFor_4 (gCont_x (gx_catch (own := "PageGardenLaw") rfl [⟨0, 9, 12, 19⟩] ⟨0, 9, 15, 13⟩ [] rfl (fun z hz => by
          rcases List.mem_cons.mp hz with rfl | hz
          · exact Or.inr ⟨by decide, "java/lang/IllegalArgumentException", q2505, by decide⟩
          cases hz) rfl (by decide) q2497 q2020 (tgt := 15) rfl (fun q => gw_sub [] rfl (w_X0_bedsFor_15  q _ hB))))
      · rw [if_neg hc1] at hB
        cases hB
  refine gw_callV (y := yX1_bedsFor) (lw_V q2623 q2624 q2625 q108 q2626) hdV_X1_bedsFor gcl0 hu3 (As := [vI l1]) (rest := [vI (0 : Int32), vR l2]) (m_X1_bedsFor _ _ _ _ _ hv2) (Nat.le_of_ble_eq_true rfl) (Nat.le_of_ble_eq_true rfl) rfl (Nat.le_of_ble_eq_true rfl) dX0_bedsFor_4 (gCont_i ?_)
  refine gw_i2l dX0_bedsFor_7 ?_
  obtain ⟨s4, hs4, hB⟩ := gB1_some hB
  refine gw_lastore hs4 dX0_bedsFor_8 ?_
  refine gw_goto (tgt := 18) dX0_bedsFor_9 (by decide) ?_
  refine gw_iconst (v := (0 : Int32)) (by decide) dX0_bedsFor_18 ?_
  obtain ⟨rfl, rfl⟩ := Prod.mk.inj (Option.some.inj hB)
  exact gw_iret rfl rfl rfl dX0_bedsFor_19
noncomputable def f_X0_bedsFor (κ : gK) (F : Nat) (a1 : Option Nat) (a2 : Int32) (a3 : Option Nat) (s : gS) : Option (Int32 × gS) := f_X0_bedsFor_0 κ F a1 a2 a3 s
theorem m_X0_bedsFor {E : gE} {F : Nat} (a1 : Option Nat) (a2 : Int32) (a3 : Option Nat) (s : gS) (r : Int32) (s' : gS) (h : f_X0_bedsFor (gk E) F a1 a2 a3 s = some (r, s')) : gCT E 13 yX0_bedsFor (wsW_ yX0_bedsFor cX0_bedsFor 4 (some FieldType.int) [(0, 9, 12, 19), (0, 9, 15, 13)]) [vR a1, vI a2, vR a3] s (.inl (some (vI r))) s' := by
  refine gCT_ofH (fun h => absurd h (by decide)) (by decide) (Nat.le_of_ble_eq_true rfl) ?_
  exact gw_sub [0, 1, 2] rfl (w_X0_bedsFor_0 _ _ _ _ h)
def dkwX0_begin_0 : List UInt8 := [43, 3, 42, 182, 0, 7, 133, 80, 167, 0, 6, 77, 4, 172, 3, 172]
abbrev dktX0_begin_0 : List UInt8 := dkwX0_begin_0 ++ []
theorem dksX0_begin_0 : cX0_begin.data.toList.drop 0 = dktX0_begin_0 := by decide +kernel
theorem dX0_begin_0 : decode cX0_begin 0 = .ok (.aload_n 1, 1) := dk_43 (dk_at dksX0_begin_0 0 rfl rfl)
theorem dX0_begin_1 : decode cX0_begin 1 = .ok (.iconst 0, 1) := dk_3 (dk_at dksX0_begin_0 1 rfl rfl)
theorem dX0_begin_2 : decode cX0_begin 2 = .ok (.aload_n 0, 1) := dk_42 (dk_at dksX0_begin_0 2 rfl rfl)
theorem dX0_begin_3 : decode cX0_begin 3 = .ok (.invokevirtual 7, 3) := dk_182 0 7 (dk_at dksX0_begin_0 3 rfl rfl)
theorem dX0_begin_6 : decode cX0_begin 6 = .ok (.i2l, 1) := dk_133 (dk_at dksX0_begin_0 6 rfl rfl)
theorem dX0_begin_7 : decode cX0_begin 7 = .ok (.lastore, 1) := dk_80 (dk_at dksX0_begin_0 7 rfl rfl)
theorem dX0_begin_8 : decode cX0_begin 8 = .ok (.goto 6, 3) := dk_167 0 6 (dk_at dksX0_begin_0 8 rfl rfl)
theorem dX0_begin_11 : decode cX0_begin 11 = .ok (.astore_n 2, 1) := dk_77 (dk_at dksX0_begin_0 11 rfl rfl)
theorem dX0_begin_12 : decode cX0_begin 12 = .ok (.iconst 1, 1) := dk_4 (dk_at dksX0_begin_0 12 rfl rfl)
theorem dX0_begin_13 : decode cX0_begin 13 = .ok (.ireturn, 1) := dk_172 (dk_at dksX0_begin_0 13 rfl rfl)
theorem dX0_begin_14 : decode cX0_begin 14 = .ok (.iconst 0, 1) := dk_3 (dk_at dksX0_begin_0 14 rfl rfl)
theorem dX0_begin_15 : decode cX0_begin 15 = .ok (.ireturn, 1) := dk_172 (dk_at dksX0_begin_0 15 rfl rfl)
/-! PageGardenLaw.begin(LPageGarden;[J)I -/
abbrev M_X0_begin (z0 n0 : Nat) (s' : gS) : gM := (RX0, cX0_begin, 3, (some FieldType.int), "begin", tableOf [(0, 8, 11, 13)], 12, z0, n0, s'.2.1, s'.2.2)
abbrev W_X0_begin (E : gE) (z0 n0 : Nat) (r : Int32) (s' : gS) (pc : Nat) (L : List (Nat × gV)) (st : List gV) (s : gS) : Prop := gW E (M_X0_begin z0 n0 s') (gQm E (M_X0_begin z0 n0 s') (.inl (some (vI r))) s') pc L st s
noncomputable def f_X0_begin_11 (κ : gK) (F : Nat)   (s : gS) : Option (Int32 × gS) :=
  some ((1 : Int32), s)
set_option maxHeartbeats 4000000 in
theorem w_X0_begin_11 {E : gE} {F z0 n0 : Nat} {r : Int32} {s' : gS}   : ∀   (q : Option Nat) (s : gS), f_X0_begin_11 (gk E) F   s = some (r, s') → W_X0_begin E z0 n0 r s' 11 [] [vR q] s := by
  intro  q s hB
  unfold f_X0_begin_11 at hB
  refine gw_astore_n (L' := [(2, vR q)]) (Nat.le_of_ble_eq_true rfl) rfl dX0_begin_11 ?_
  refine gw_iconst (v := (1 : Int32)) (by decide) dX0_begin_12 ?_
  obtain ⟨rfl, rfl⟩ := Prod.mk.inj (Option.some.inj hB)
  exact gw_iret rfl rfl rfl dX0_begin_13
noncomputable def f_X0_begin_0 (κ : gK) (F : Nat)  (l0 : Option Nat) (l1 : Option Nat) (s : gS) : Option (Int32 × gS) :=
  gB1 (gck s l0 0) fun _ =>
  gBy (f_X1_begin κ F l0  s) (fun Cv2 s1 =>
    if Cv2 = "java/lang/IllegalStateException" then f_X0_begin_11 κ F  s1 else
    none) <| fun v2 s1 =>
  gB1 (gsJ κ s1 l1 (0 : Int32) (v2.toInt64)) fun s4 =>
  some ((0 : Int32), s4)
set_option maxHeartbeats 4000000 in
theorem w_X0_begin_0 {E : gE} {F z0 n0 : Nat} {r : Int32} {s' : gS}   : ∀ (l0 : Option Nat) (l1 : Option Nat)  (s : gS), f_X0_begin_0 (gk E) F  l0 l1 s = some (r, s') → W_X0_begin E z0 n0 r s' 0 [(0, vR l0), (1, vR l1)] [] s := by
  intro l0 l1 s hB
  unfold f_X0_begin_0 at hB
  refine gw_aload_n 1 rfl dX0_begin_0 ?_
  refine gw_iconst (v := (0 : Int32)) (by decide) dX0_begin_1 ?_
  refine gw_aload_n 0 rfl dX0_begin_2 ?_
  obtain ⟨u0, hu3, hB⟩ := gB1_some hB
  rcases gBy_some hB with ⟨v2, s1, hv2, hB⟩ | ⟨Cv2, s1, hv2, hB⟩
  rotate_left
  · by_cases hc0 : Cv2 = "java/lang/IllegalStateException"
    · rw [if_pos hc0] at hB
      subst hc0
      exact gw_callV (y := yX1_begin) (lw_V q2498 q2499 q2500 q108 q2501) hdV_X1_begin gcl0 hu3 (As := []) (rest := [vI (0 : Int32), vR l1]) (m_X1_begin _ _ _ _ hv2) (Nat.le_of_ble_eq_true rfl) (Nat.le_of_ble_eq_true rfl) rfl (Nat.le_of_ble_eq_true rfl) dX0_begin_3 (gCont_x (gx_catch (own := "PageGardenLaw") rfl [] ⟨0, 8, 11, 13⟩ [] rfl (fun z hz => by cases hz) rfl (by decide) q2497 q2020 (tgt := 11) rfl (fun q => gw_sub [] rfl (w_X0_begin_11  q _ hB))))
    · rw [if_neg hc0] at hB
      cases hB
  refine gw_callV (y := yX1_begin) (lw_V q2498 q2499 q2500 q108 q2501) hdV_X1_begin gcl0 hu3 (As := []) (rest := [vI (0 : Int32), vR l1]) (m_X1_begin _ _ _ _ hv2) (Nat.le_of_ble_eq_true rfl) (Nat.le_of_ble_eq_true rfl) rfl (Nat.le_of_ble_eq_true rfl) dX0_begin_3 (gCont_i ?_)
  refine gw_i2l dX0_begin_6 ?_
  obtain ⟨s4, hs4, hB⟩ := gB1_some hB
  refine gw_lastore hs4 dX0_begin_7 ?_
  refine gw_goto (tgt := 14) dX0_begin_8 (by decide) ?_
  refine gw_iconst (v := (0 : Int32)) (by decide) dX0_begin_14 ?_
  obtain ⟨rfl, rfl⟩ := Prod.mk.inj (Option.some.inj hB)
  exact gw_iret rfl rfl rfl dX0_begin_15
noncomputable def f_X0_begin (κ : gK) (F : Nat) (a1 : Option Nat) (a2 : Option Nat) (s : gS) : Option (Int32 × gS) := f_X0_begin_0 κ F a1 a2 s
theorem m_X0_begin {E : gE} {F : Nat} (a1 : Option Nat) (a2 : Option Nat) (s : gS) (r : Int32) (s' : gS) (h : f_X0_begin (gk E) F a1 a2 s = some (r, s')) : gCT E 12 yX0_begin (wsW_ yX0_begin cX0_begin 3 (some FieldType.int) [(0, 8, 11, 13)]) [vR a1, vR a2] s (.inl (some (vI r))) s' := by
  refine gCT_ofH (fun h => absurd h (by decide)) (by decide) (Nat.le_of_ble_eq_true rfl) ?_
  exact gw_sub [0, 1] rfl (w_X0_begin_0 _ _ _ h)
def dkwX0_changedSince_0 : List UInt8 := [44, 3, 42, 27, 182, 0, 72, 133, 80, 167, 0, 9, 78, 4, 172, 78, 5, 172, 3, 172]
abbrev dktX0_changedSince_0 : List UInt8 := dkwX0_changedSince_0 ++ []
theorem dksX0_changedSince_0 : cX0_changedSince.data.toList.drop 0 = dktX0_changedSince_0 := by decide +kernel
theorem dX0_changedSince_0 : decode cX0_changedSince 0 = .ok (.aload_n 2, 1) := dk_44 (dk_at dksX0_changedSince_0 0 rfl rfl)
theorem dX0_changedSince_1 : decode cX0_changedSince 1 = .ok (.iconst 0, 1) := dk_3 (dk_at dksX0_changedSince_0 1 rfl rfl)
theorem dX0_changedSince_2 : decode cX0_changedSince 2 = .ok (.aload_n 0, 1) := dk_42 (dk_at dksX0_changedSince_0 2 rfl rfl)
theorem dX0_changedSince_3 : decode cX0_changedSince 3 = .ok (.iload_n 1, 1) := dk_27 (dk_at dksX0_changedSince_0 3 rfl rfl)
theorem dX0_changedSince_4 : decode cX0_changedSince 4 = .ok (.invokevirtual 72, 3) := dk_182 0 72 (dk_at dksX0_changedSince_0 4 rfl rfl)
theorem dX0_changedSince_7 : decode cX0_changedSince 7 = .ok (.i2l, 1) := dk_133 (dk_at dksX0_changedSince_0 7 rfl rfl)
theorem dX0_changedSince_8 : decode cX0_changedSince 8 = .ok (.lastore, 1) := dk_80 (dk_at dksX0_changedSince_0 8 rfl rfl)
theorem dX0_changedSince_9 : decode cX0_changedSince 9 = .ok (.goto 9, 3) := dk_167 0 9 (dk_at dksX0_changedSince_0 9 rfl rfl)
theorem dX0_changedSince_12 : decode cX0_changedSince 12 = .ok (.astore_n 3, 1) := dk_78 (dk_at dksX0_changedSince_0 12 rfl rfl)
theorem dX0_changedSince_13 : decode cX0_changedSince 13 = .ok (.iconst 1, 1) := dk_4 (dk_at dksX0_changedSince_0 13 rfl rfl)
theorem dX0_changedSince_14 : decode cX0_changedSince 14 = .ok (.ireturn, 1) := dk_172 (dk_at dksX0_changedSince_0 14 rfl rfl)
theorem dX0_changedSince_15 : decode cX0_changedSince 15 = .ok (.astore_n 3, 1) := dk_78 (dk_at dksX0_changedSince_0 15 rfl rfl)
theorem dX0_changedSince_16 : decode cX0_changedSince 16 = .ok (.iconst 2, 1) := dk_5 (dk_at dksX0_changedSince_0 16 rfl rfl)
theorem dX0_changedSince_17 : decode cX0_changedSince 17 = .ok (.ireturn, 1) := dk_172 (dk_at dksX0_changedSince_0 17 rfl rfl)
theorem dX0_changedSince_18 : decode cX0_changedSince 18 = .ok (.iconst 0, 1) := dk_3 (dk_at dksX0_changedSince_0 18 rfl rfl)
theorem dX0_changedSince_19 : decode cX0_changedSince 19 = .ok (.ireturn, 1) := dk_172 (dk_at dksX0_changedSince_0 19 rfl rfl)
/-! PageGardenLaw.changedSince(LPageGarden;I[J)I -/
abbrev M_X0_changedSince (z0 n0 : Nat) (s' : gS) : gM := (RX0, cX0_changedSince, 4, (some FieldType.int), "changedSince", tableOf [(0, 9, 12, 37), (0, 9, 15, 13)], 37, z0, n0, s'.2.1, s'.2.2)
abbrev W_X0_changedSince (E : gE) (z0 n0 : Nat) (r : Int32) (s' : gS) (pc : Nat) (L : List (Nat × gV)) (st : List gV) (s : gS) : Prop := gW E (M_X0_changedSince z0 n0 s') (gQm E (M_X0_changedSince z0 n0 s') (.inl (some (vI r))) s') pc L st s
noncomputable def f_X0_changedSince_12 (κ : gK) (F : Nat)   (s : gS) : Option (Int32 × gS) :=
  some ((1 : Int32), s)
set_option maxHeartbeats 4000000 in
theorem w_X0_changedSince_12 {E : gE} {F z0 n0 : Nat} {r : Int32} {s' : gS}   : ∀   (q : Option Nat) (s : gS), f_X0_changedSince_12 (gk E) F   s = some (r, s') → W_X0_changedSince E z0 n0 r s' 12 [] [vR q] s := by
  intro  q s hB
  unfold f_X0_changedSince_12 at hB
  refine gw_astore_n (L' := [(3, vR q)]) (Nat.le_of_ble_eq_true rfl) rfl dX0_changedSince_12 ?_
  refine gw_iconst (v := (1 : Int32)) (by decide) dX0_changedSince_13 ?_
  obtain ⟨rfl, rfl⟩ := Prod.mk.inj (Option.some.inj hB)
  exact gw_iret rfl rfl rfl dX0_changedSince_14
noncomputable def f_X0_changedSince_15 (κ : gK) (F : Nat)   (s : gS) : Option (Int32 × gS) :=
  some ((2 : Int32), s)
set_option maxHeartbeats 4000000 in
theorem w_X0_changedSince_15 {E : gE} {F z0 n0 : Nat} {r : Int32} {s' : gS}   : ∀   (q : Option Nat) (s : gS), f_X0_changedSince_15 (gk E) F   s = some (r, s') → W_X0_changedSince E z0 n0 r s' 15 [] [vR q] s := by
  intro  q s hB
  unfold f_X0_changedSince_15 at hB
  refine gw_astore_n (L' := [(3, vR q)]) (Nat.le_of_ble_eq_true rfl) rfl dX0_changedSince_15 ?_
  refine gw_iconst (v := (2 : Int32)) (by decide) dX0_changedSince_16 ?_
  obtain ⟨rfl, rfl⟩ := Prod.mk.inj (Option.some.inj hB)
  exact gw_iret rfl rfl rfl dX0_changedSince_17
noncomputable def f_X0_changedSince_0 (κ : gK) (F : Nat)  (l0 : Option Nat) (l1 : Int32) (l2 : Option Nat) (s : gS) : Option (Int32 × gS) :=
  gB1 (gck s l0 0) fun _ =>
  gBy (f_X1_changedSince κ F l0 l1 s) (fun Cv2 s1 =>
    if Cv2 = "java/lang/IndexOutOfBoundsException" then f_X0_changedSince_12 κ F  s1 else
    if Cv2 = "java/lang/IllegalStateException" then f_X0_changedSince_15 κ F  s1 else
    none) <| fun v2 s1 =>
  gB1 (gsJ κ s1 l2 (0 : Int32) (v2.toInt64)) fun s4 =>
  some ((0 : Int32), s4)
set_option maxHeartbeats 4000000 in
theorem w_X0_changedSince_0 {E : gE} {F z0 n0 : Nat} {r : Int32} {s' : gS}   : ∀ (l0 : Option Nat) (l1 : Int32) (l2 : Option Nat)  (s : gS), f_X0_changedSince_0 (gk E) F  l0 l1 l2 s = some (r, s') → W_X0_changedSince E z0 n0 r s' 0 [(0, vR l0), (1, vI l1), (2, vR l2)] [] s := by
  intro l0 l1 l2 s hB
  unfold f_X0_changedSince_0 at hB
  refine gw_aload_n 2 rfl dX0_changedSince_0 ?_
  refine gw_iconst (v := (0 : Int32)) (by decide) dX0_changedSince_1 ?_
  refine gw_aload_n 0 rfl dX0_changedSince_2 ?_
  refine gw_iload_n 1 rfl dX0_changedSince_3 ?_
  obtain ⟨u0, hu3, hB⟩ := gB1_some hB
  rcases gBy_some hB with ⟨v2, s1, hv2, hB⟩ | ⟨Cv2, s1, hv2, hB⟩
  rotate_left
  · by_cases hc0 : Cv2 = "java/lang/IndexOutOfBoundsException"
    · rw [if_pos hc0] at hB
      subst hc0
      exact gw_callV (y := yX1_changedSince) (lw_V q2647 q2648 q2649 q108 q2650) hdV_X1_changedSince gcl0 hu3 (As := [vI l1]) (rest := [vI (0 : Int32), vR l2]) (m_X1_changedSince _ _ _ _ _ hv2) (Nat.le_of_ble_eq_true rfl) (Nat.le_of_ble_eq_true rfl) rfl (Nat.le_of_ble_eq_true rfl) dX0_changedSince_4 (gCont_x (gx_catch (own := "PageGardenLaw") rfl [] ⟨0, 9, 12, 37⟩ [⟨0, 9, 15, 13⟩] rfl (fun z hz => by cases hz) rfl (by decide) q2541 q2286 (tgt := 12) rfl (fun q => gw_sub [] rfl (w_X0_changedSince_12  q _ hB))))
    · rw [if_neg hc0] at hB
      by_cases hc1 : Cv2 = "java/lang/IllegalStateException"
      · rw [if_pos hc1] at hB
        subst hc1
        exact gw_callV (y := yX1_changedSince) (lw_V q2647 q2648 q2649 q108 q2650) hdV_X1_changedSince gcl0 hu3 (As := [vI l1]) (rest := [vI (0 : Int32), vR l2]) (m_X1_changedSince _ _ _ _ _ hv2) (Nat.le_of_ble_eq_true rfl) (Nat.le_of_ble_eq_true rfl) rfl (Nat.le_of_ble_eq_true rfl) dX0_changedSince_4 (gCont_x (gx_catch (own := "PageGardenLaw") rfl [⟨0, 9, 12, 37⟩] ⟨0, 9, 15, 13⟩ [] rfl (fun z hz => by
          rcases List.mem_cons.mp hz with rfl | hz
          · exact Or.inr ⟨by decide, "java/lang/IndexOutOfBoundsException", q2541, by decide⟩
          cases hz) rfl (by decide) q2497 q2020 (tgt := 15) rfl (fun q => gw_sub [] rfl (w_X0_changedSince_15  q _ hB))))
      · rw [if_neg hc1] at hB
        cases hB
  refine gw_callV (y := yX1_changedSince) (lw_V q2647 q2648 q2649 q108 q2650) hdV_X1_changedSince gcl0 hu3 (As := [vI l1]) (rest := [vI (0 : Int32), vR l2]) (m_X1_changedSince _ _ _ _ _ hv2) (Nat.le_of_ble_eq_true rfl) (Nat.le_of_ble_eq_true rfl) rfl (Nat.le_of_ble_eq_true rfl) dX0_changedSince_4 (gCont_i ?_)
  refine gw_i2l dX0_changedSince_7 ?_
  obtain ⟨s4, hs4, hB⟩ := gB1_some hB
  refine gw_lastore hs4 dX0_changedSince_8 ?_
  refine gw_goto (tgt := 18) dX0_changedSince_9 (by decide) ?_
  refine gw_iconst (v := (0 : Int32)) (by decide) dX0_changedSince_18 ?_
  obtain ⟨rfl, rfl⟩ := Prod.mk.inj (Option.some.inj hB)
  exact gw_iret rfl rfl rfl dX0_changedSince_19
noncomputable def f_X0_changedSince (κ : gK) (F : Nat) (a1 : Option Nat) (a2 : Int32) (a3 : Option Nat) (s : gS) : Option (Int32 × gS) := f_X0_changedSince_0 κ F a1 a2 a3 s
theorem m_X0_changedSince {E : gE} {F : Nat} (a1 : Option Nat) (a2 : Int32) (a3 : Option Nat) (s : gS) (r : Int32) (s' : gS) (h : f_X0_changedSince (gk E) F a1 a2 a3 s = some (r, s')) : gCT E 37 yX0_changedSince (wsW_ yX0_changedSince cX0_changedSince 4 (some FieldType.int) [(0, 9, 12, 37), (0, 9, 15, 13)]) [vR a1, vI a2, vR a3] s (.inl (some (vI r))) s' := by
  refine gCT_ofH (fun _ h => absurd h (by decide)) (by decide) (Nat.le_of_ble_eq_true rfl) ?_
  exact gw_sub [0, 1, 2] rfl (w_X0_changedSince_0 _ _ _ _ h)
def dkwX0_close_0 : List UInt8 := [44, 3, 42, 27, 182, 0, 34, 133, 80, 167, 0, 9, 78, 4, 172, 78, 5, 172, 3, 172]
abbrev dktX0_close_0 : List UInt8 := dkwX0_close_0 ++ []
theorem dksX0_close_0 : cX0_close.data.toList.drop 0 = dktX0_close_0 := by decide +kernel
theorem dX0_close_0 : decode cX0_close 0 = .ok (.aload_n 2, 1) := dk_44 (dk_at dksX0_close_0 0 rfl rfl)
theorem dX0_close_1 : decode cX0_close 1 = .ok (.iconst 0, 1) := dk_3 (dk_at dksX0_close_0 1 rfl rfl)
theorem dX0_close_2 : decode cX0_close 2 = .ok (.aload_n 0, 1) := dk_42 (dk_at dksX0_close_0 2 rfl rfl)
theorem dX0_close_3 : decode cX0_close 3 = .ok (.iload_n 1, 1) := dk_27 (dk_at dksX0_close_0 3 rfl rfl)
theorem dX0_close_4 : decode cX0_close 4 = .ok (.invokevirtual 34, 3) := dk_182 0 34 (dk_at dksX0_close_0 4 rfl rfl)
theorem dX0_close_7 : decode cX0_close 7 = .ok (.i2l, 1) := dk_133 (dk_at dksX0_close_0 7 rfl rfl)
theorem dX0_close_8 : decode cX0_close 8 = .ok (.lastore, 1) := dk_80 (dk_at dksX0_close_0 8 rfl rfl)
theorem dX0_close_9 : decode cX0_close 9 = .ok (.goto 9, 3) := dk_167 0 9 (dk_at dksX0_close_0 9 rfl rfl)
theorem dX0_close_12 : decode cX0_close 12 = .ok (.astore_n 3, 1) := dk_78 (dk_at dksX0_close_0 12 rfl rfl)
theorem dX0_close_13 : decode cX0_close 13 = .ok (.iconst 1, 1) := dk_4 (dk_at dksX0_close_0 13 rfl rfl)
theorem dX0_close_14 : decode cX0_close 14 = .ok (.ireturn, 1) := dk_172 (dk_at dksX0_close_0 14 rfl rfl)
theorem dX0_close_15 : decode cX0_close 15 = .ok (.astore_n 3, 1) := dk_78 (dk_at dksX0_close_0 15 rfl rfl)
theorem dX0_close_16 : decode cX0_close 16 = .ok (.iconst 2, 1) := dk_5 (dk_at dksX0_close_0 16 rfl rfl)
theorem dX0_close_17 : decode cX0_close 17 = .ok (.ireturn, 1) := dk_172 (dk_at dksX0_close_0 17 rfl rfl)
theorem dX0_close_18 : decode cX0_close 18 = .ok (.iconst 0, 1) := dk_3 (dk_at dksX0_close_0 18 rfl rfl)
theorem dX0_close_19 : decode cX0_close 19 = .ok (.ireturn, 1) := dk_172 (dk_at dksX0_close_0 19 rfl rfl)
/-! PageGardenLaw.close(LPageGarden;I[J)I -/
abbrev M_X0_close (z0 n0 : Nat) (s' : gS) : gM := (RX0, cX0_close, 4, (some FieldType.int), "close", tableOf [(0, 9, 12, 37), (0, 9, 15, 13)], 13, z0, n0, s'.2.1, s'.2.2)
abbrev W_X0_close (E : gE) (z0 n0 : Nat) (r : Int32) (s' : gS) (pc : Nat) (L : List (Nat × gV)) (st : List gV) (s : gS) : Prop := gW E (M_X0_close z0 n0 s') (gQm E (M_X0_close z0 n0 s') (.inl (some (vI r))) s') pc L st s
noncomputable def f_X0_close_12 (κ : gK) (F : Nat)   (s : gS) : Option (Int32 × gS) :=
  some ((1 : Int32), s)
set_option maxHeartbeats 4000000 in
theorem w_X0_close_12 {E : gE} {F z0 n0 : Nat} {r : Int32} {s' : gS}   : ∀   (q : Option Nat) (s : gS), f_X0_close_12 (gk E) F   s = some (r, s') → W_X0_close E z0 n0 r s' 12 [] [vR q] s := by
  intro  q s hB
  unfold f_X0_close_12 at hB
  refine gw_astore_n (L' := [(3, vR q)]) (Nat.le_of_ble_eq_true rfl) rfl dX0_close_12 ?_
  refine gw_iconst (v := (1 : Int32)) (by decide) dX0_close_13 ?_
  obtain ⟨rfl, rfl⟩ := Prod.mk.inj (Option.some.inj hB)
  exact gw_iret rfl rfl rfl dX0_close_14
noncomputable def f_X0_close_15 (κ : gK) (F : Nat)   (s : gS) : Option (Int32 × gS) :=
  some ((2 : Int32), s)
set_option maxHeartbeats 4000000 in
theorem w_X0_close_15 {E : gE} {F z0 n0 : Nat} {r : Int32} {s' : gS}   : ∀   (q : Option Nat) (s : gS), f_X0_close_15 (gk E) F   s = some (r, s') → W_X0_close E z0 n0 r s' 15 [] [vR q] s := by
  intro  q s hB
  unfold f_X0_close_15 at hB
  refine gw_astore_n (L' := [(3, vR q)]) (Nat.le_of_ble_eq_true rfl) rfl dX0_close_15 ?_
  refine gw_iconst (v := (2 : Int32)) (by decide) dX0_close_16 ?_
  obtain ⟨rfl, rfl⟩ := Prod.mk.inj (Option.some.inj hB)
  exact gw_iret rfl rfl rfl dX0_close_17
noncomputable def f_X0_close_0 (κ : gK) (F : Nat)  (l0 : Option Nat) (l1 : Int32) (l2 : Option Nat) (s : gS) : Option (Int32 × gS) :=
  gB1 (gck s l0 0) fun _ =>
  gBy (f_X1_close κ F l0 l1 s) (fun Cv2 s1 =>
    if Cv2 = "java/lang/IndexOutOfBoundsException" then f_X0_close_12 κ F  s1 else
    if Cv2 = "java/lang/IllegalStateException" then f_X0_close_15 κ F  s1 else
    none) <| fun v2 s1 =>
  gB1 (gsJ κ s1 l2 (0 : Int32) (v2.toInt64)) fun s4 =>
  some ((0 : Int32), s4)
set_option maxHeartbeats 4000000 in
theorem w_X0_close_0 {E : gE} {F z0 n0 : Nat} {r : Int32} {s' : gS}   : ∀ (l0 : Option Nat) (l1 : Int32) (l2 : Option Nat)  (s : gS), f_X0_close_0 (gk E) F  l0 l1 l2 s = some (r, s') → W_X0_close E z0 n0 r s' 0 [(0, vR l0), (1, vI l1), (2, vR l2)] [] s := by
  intro l0 l1 l2 s hB
  unfold f_X0_close_0 at hB
  refine gw_aload_n 2 rfl dX0_close_0 ?_
  refine gw_iconst (v := (0 : Int32)) (by decide) dX0_close_1 ?_
  refine gw_aload_n 0 rfl dX0_close_2 ?_
  refine gw_iload_n 1 rfl dX0_close_3 ?_
  obtain ⟨u0, hu3, hB⟩ := gB1_some hB
  rcases gBy_some hB with ⟨v2, s1, hv2, hB⟩ | ⟨Cv2, s1, hv2, hB⟩
  rotate_left
  · by_cases hc0 : Cv2 = "java/lang/IndexOutOfBoundsException"
    · rw [if_pos hc0] at hB
      subst hc0
      exact gw_callV (y := yX1_close) (lw_V q2542 q2543 q2544 q108 q2545) hdV_X1_close gcl0 hu3 (As := [vI l1]) (rest := [vI (0 : Int32), vR l2]) (m_X1_close _ _ _ _ _ hv2) (Nat.le_of_ble_eq_true rfl) (Nat.le_of_ble_eq_true rfl) rfl (Nat.le_of_ble_eq_true rfl) dX0_close_4 (gCont_x (gx_catch (own := "PageGardenLaw") rfl [] ⟨0, 9, 12, 37⟩ [⟨0, 9, 15, 13⟩] rfl (fun z hz => by cases hz) rfl (by decide) q2541 q2286 (tgt := 12) rfl (fun q => gw_sub [] rfl (w_X0_close_12  q _ hB))))
    · rw [if_neg hc0] at hB
      by_cases hc1 : Cv2 = "java/lang/IllegalStateException"
      · rw [if_pos hc1] at hB
        subst hc1
        exact gw_callV (y := yX1_close) (lw_V q2542 q2543 q2544 q108 q2545) hdV_X1_close gcl0 hu3 (As := [vI l1]) (rest := [vI (0 : Int32), vR l2]) (m_X1_close _ _ _ _ _ hv2) (Nat.le_of_ble_eq_true rfl) (Nat.le_of_ble_eq_true rfl) rfl (Nat.le_of_ble_eq_true rfl) dX0_close_4 (gCont_x (gx_catch (own := "PageGardenLaw") rfl [⟨0, 9, 12, 37⟩] ⟨0, 9, 15, 13⟩ [] rfl (fun z hz => by
          rcases List.mem_cons.mp hz with rfl | hz
          · exact Or.inr ⟨by decide, "java/lang/IndexOutOfBoundsException", q2541, by decide⟩
          cases hz) rfl (by decide) q2497 q2020 (tgt := 15) rfl (fun q => gw_sub [] rfl (w_X0_close_15  q _ hB))))
      · rw [if_neg hc1] at hB
        cases hB
  refine gw_callV (y := yX1_close) (lw_V q2542 q2543 q2544 q108 q2545) hdV_X1_close gcl0 hu3 (As := [vI l1]) (rest := [vI (0 : Int32), vR l2]) (m_X1_close _ _ _ _ _ hv2) (Nat.le_of_ble_eq_true rfl) (Nat.le_of_ble_eq_true rfl) rfl (Nat.le_of_ble_eq_true rfl) dX0_close_4 (gCont_i ?_)
  refine gw_i2l dX0_close_7 ?_
  obtain ⟨s4, hs4, hB⟩ := gB1_some hB
  refine gw_lastore hs4 dX0_close_8 ?_
  refine gw_goto (tgt := 18) dX0_close_9 (by decide) ?_
  refine gw_iconst (v := (0 : Int32)) (by decide) dX0_close_18 ?_
  obtain ⟨rfl, rfl⟩ := Prod.mk.inj (Option.some.inj hB)
  exact gw_iret rfl rfl rfl dX0_close_19
noncomputable def f_X0_close (κ : gK) (F : Nat) (a1 : Option Nat) (a2 : Int32) (a3 : Option Nat) (s : gS) : Option (Int32 × gS) := f_X0_close_0 κ F a1 a2 a3 s
theorem m_X0_close {E : gE} {F : Nat} (a1 : Option Nat) (a2 : Int32) (a3 : Option Nat) (s : gS) (r : Int32) (s' : gS) (h : f_X0_close (gk E) F a1 a2 a3 s = some (r, s')) : gCT E 13 yX0_close (wsW_ yX0_close cX0_close 4 (some FieldType.int) [(0, 9, 12, 37), (0, 9, 15, 13)]) [vR a1, vI a2, vR a3] s (.inl (some (vI r))) s' := by
  refine gCT_ofH (fun h => absurd h (by decide)) (by decide) (Nat.le_of_ble_eq_true rfl) ?_
  exact gw_sub [0, 1, 2] rfl (w_X0_close_0 _ _ _ _ h)
def dkwX0_commit_0 : List UInt8 := [44, 3, 42, 27, 182, 0, 25, 133, 80, 167, 0, 9, 78, 4, 172, 78, 5, 172, 3, 172]
abbrev dktX0_commit_0 : List UInt8 := dkwX0_commit_0 ++ []
theorem dksX0_commit_0 : cX0_commit.data.toList.drop 0 = dktX0_commit_0 := by decide +kernel
theorem dX0_commit_0 : decode cX0_commit 0 = .ok (.aload_n 2, 1) := dk_44 (dk_at dksX0_commit_0 0 rfl rfl)
theorem dX0_commit_1 : decode cX0_commit 1 = .ok (.iconst 0, 1) := dk_3 (dk_at dksX0_commit_0 1 rfl rfl)
theorem dX0_commit_2 : decode cX0_commit 2 = .ok (.aload_n 0, 1) := dk_42 (dk_at dksX0_commit_0 2 rfl rfl)
theorem dX0_commit_3 : decode cX0_commit 3 = .ok (.iload_n 1, 1) := dk_27 (dk_at dksX0_commit_0 3 rfl rfl)
theorem dX0_commit_4 : decode cX0_commit 4 = .ok (.invokevirtual 25, 3) := dk_182 0 25 (dk_at dksX0_commit_0 4 rfl rfl)
theorem dX0_commit_7 : decode cX0_commit 7 = .ok (.i2l, 1) := dk_133 (dk_at dksX0_commit_0 7 rfl rfl)
theorem dX0_commit_8 : decode cX0_commit 8 = .ok (.lastore, 1) := dk_80 (dk_at dksX0_commit_0 8 rfl rfl)
theorem dX0_commit_9 : decode cX0_commit 9 = .ok (.goto 9, 3) := dk_167 0 9 (dk_at dksX0_commit_0 9 rfl rfl)
theorem dX0_commit_12 : decode cX0_commit 12 = .ok (.astore_n 3, 1) := dk_78 (dk_at dksX0_commit_0 12 rfl rfl)
theorem dX0_commit_13 : decode cX0_commit 13 = .ok (.iconst 1, 1) := dk_4 (dk_at dksX0_commit_0 13 rfl rfl)
theorem dX0_commit_14 : decode cX0_commit 14 = .ok (.ireturn, 1) := dk_172 (dk_at dksX0_commit_0 14 rfl rfl)
theorem dX0_commit_15 : decode cX0_commit 15 = .ok (.astore_n 3, 1) := dk_78 (dk_at dksX0_commit_0 15 rfl rfl)
theorem dX0_commit_16 : decode cX0_commit 16 = .ok (.iconst 2, 1) := dk_5 (dk_at dksX0_commit_0 16 rfl rfl)
theorem dX0_commit_17 : decode cX0_commit 17 = .ok (.ireturn, 1) := dk_172 (dk_at dksX0_commit_0 17 rfl rfl)
theorem dX0_commit_18 : decode cX0_commit 18 = .ok (.iconst 0, 1) := dk_3 (dk_at dksX0_commit_0 18 rfl rfl)
theorem dX0_commit_19 : decode cX0_commit 19 = .ok (.ireturn, 1) := dk_172 (dk_at dksX0_commit_0 19 rfl rfl)
/-! PageGardenLaw.commit(LPageGarden;I[J)I -/
abbrev M_X0_commit (z0 n0 : Nat) (s' : gS) : gM := (RX0, cX0_commit, 4, (some FieldType.int), "commit", tableOf [(0, 9, 12, 19), (0, 9, 15, 13)], 13, z0, n0, s'.2.1, s'.2.2)
abbrev W_X0_commit (E : gE) (z0 n0 : Nat) (r : Int32) (s' : gS) (pc : Nat) (L : List (Nat × gV)) (st : List gV) (s : gS) : Prop := gW E (M_X0_commit z0 n0 s') (gQm E (M_X0_commit z0 n0 s') (.inl (some (vI r))) s') pc L st s
noncomputable def f_X0_commit_12 (κ : gK) (F : Nat)   (s : gS) : Option (Int32 × gS) :=
  some ((1 : Int32), s)
set_option maxHeartbeats 4000000 in
theorem w_X0_commit_12 {E : gE} {F z0 n0 : Nat} {r : Int32} {s' : gS}   : ∀   (q : Option Nat) (s : gS), f_X0_commit_12 (gk E) F   s = some (r, s') → W_X0_commit E z0 n0 r s' 12 [] [vR q] s := by
  intro  q s hB
  unfold f_X0_commit_12 at hB
  refine gw_astore_n (L' := [(3, vR q)]) (Nat.le_of_ble_eq_true rfl) rfl dX0_commit_12 ?_
  refine gw_iconst (v := (1 : Int32)) (by decide) dX0_commit_13 ?_
  obtain ⟨rfl, rfl⟩ := Prod.mk.inj (Option.some.inj hB)
  exact gw_iret rfl rfl rfl dX0_commit_14
noncomputable def f_X0_commit_15 (κ : gK) (F : Nat)   (s : gS) : Option (Int32 × gS) :=
  some ((2 : Int32), s)
set_option maxHeartbeats 4000000 in
theorem w_X0_commit_15 {E : gE} {F z0 n0 : Nat} {r : Int32} {s' : gS}   : ∀   (q : Option Nat) (s : gS), f_X0_commit_15 (gk E) F   s = some (r, s') → W_X0_commit E z0 n0 r s' 15 [] [vR q] s := by
  intro  q s hB
  unfold f_X0_commit_15 at hB
  refine gw_astore_n (L' := [(3, vR q)]) (Nat.le_of_ble_eq_true rfl) rfl dX0_commit_15 ?_
  refine gw_iconst (v := (2 : Int32)) (by decide) dX0_commit_16 ?_
  obtain ⟨rfl, rfl⟩ := Prod.mk.inj (Option.some.inj hB)
  exact gw_iret rfl rfl rfl dX0_commit_17
noncomputable def f_X0_commit_0 (κ : gK) (F : Nat)  (l0 : Option Nat) (l1 : Int32) (l2 : Option Nat) (s : gS) : Option (Int32 × gS) :=
  gB1 (gck s l0 0) fun _ =>
  gBy (f_X1_commit κ F l0 l1 s) (fun Cv2 s1 =>
    if Cv2 = "java/lang/IllegalArgumentException" then f_X0_commit_12 κ F  s1 else
    if Cv2 = "java/lang/IllegalStateException" then f_X0_commit_15 κ F  s1 else
    none) <| fun v2 s1 =>
  gB1 (gsJ κ s1 l2 (0 : Int32) (v2.toInt64)) fun s4 =>
  some ((0 : Int32), s4)
set_option maxHeartbeats 4000000 in
theorem w_X0_commit_0 {E : gE} {F z0 n0 : Nat} {r : Int32} {s' : gS}   : ∀ (l0 : Option Nat) (l1 : Int32) (l2 : Option Nat)  (s : gS), f_X0_commit_0 (gk E) F  l0 l1 l2 s = some (r, s') → W_X0_commit E z0 n0 r s' 0 [(0, vR l0), (1, vI l1), (2, vR l2)] [] s := by
  intro l0 l1 l2 s hB
  unfold f_X0_commit_0 at hB
  refine gw_aload_n 2 rfl dX0_commit_0 ?_
  refine gw_iconst (v := (0 : Int32)) (by decide) dX0_commit_1 ?_
  refine gw_aload_n 0 rfl dX0_commit_2 ?_
  refine gw_iload_n 1 rfl dX0_commit_3 ?_
  obtain ⟨u0, hu3, hB⟩ := gB1_some hB
  rcases gBy_some hB with ⟨v2, s1, hv2, hB⟩ | ⟨Cv2, s1, hv2, hB⟩
  rotate_left
  · by_cases hc0 : Cv2 = "java/lang/IllegalArgumentException"
    · rw [if_pos hc0] at hB
      subst hc0
      exact gw_callV (y := yX1_commit) (lw_V q2520 q2521 q2522 q108 q2523) hdV_X1_commit gcl0 hu3 (As := [vI l1]) (rest := [vI (0 : Int32), vR l2]) (m_X1_commit _ _ _ _ _ hv2) (Nat.le_of_ble_eq_true rfl) (Nat.le_of_ble_eq_true rfl) rfl (Nat.le_of_ble_eq_true rfl) dX0_commit_4 (gCont_x (gx_catch (own := "PageGardenLaw") rfl [] ⟨0, 9, 12, 19⟩ [⟨0, 9, 15, 13⟩] rfl (fun z hz => by cases hz) rfl (by decide) q2505 q430 (tgt := 12) rfl (fun q => gw_sub [] rfl (w_X0_commit_12  q _ hB))))
    · rw [if_neg hc0] at hB
      by_cases hc1 : Cv2 = "java/lang/IllegalStateException"
      · rw [if_pos hc1] at hB
        subst hc1
        exact gw_callV (y := yX1_commit) (lw_V q2520 q2521 q2522 q108 q2523) hdV_X1_commit gcl0 hu3 (As := [vI l1]) (rest := [vI (0 : Int32), vR l2]) (m_X1_commit _ _ _ _ _ hv2) (Nat.le_of_ble_eq_true rfl) (Nat.le_of_ble_eq_true rfl) rfl (Nat.le_of_ble_eq_true rfl) dX0_commit_4 (gCont_x (gx_catch (own := "PageGardenLaw") rfl [⟨0, 9, 12, 19⟩] ⟨0, 9, 15, 13⟩ [] rfl (fun z hz => by
          rcases List.mem_cons.mp hz with rfl | hz
          · exact Or.inr ⟨by decide, "java/lang/IllegalArgumentException", q2505, by decide⟩
          cases hz) rfl (by decide) q2497 q2020 (tgt := 15) rfl (fun q => gw_sub [] rfl (w_X0_commit_15  q _ hB))))
      · rw [if_neg hc1] at hB
        cases hB
  refine gw_callV (y := yX1_commit) (lw_V q2520 q2521 q2522 q108 q2523) hdV_X1_commit gcl0 hu3 (As := [vI l1]) (rest := [vI (0 : Int32), vR l2]) (m_X1_commit _ _ _ _ _ hv2) (Nat.le_of_ble_eq_true rfl) (Nat.le_of_ble_eq_true rfl) rfl (Nat.le_of_ble_eq_true rfl) dX0_commit_4 (gCont_i ?_)
  refine gw_i2l dX0_commit_7 ?_
  obtain ⟨s4, hs4, hB⟩ := gB1_some hB
  refine gw_lastore hs4 dX0_commit_8 ?_
  refine gw_goto (tgt := 18) dX0_commit_9 (by decide) ?_
  refine gw_iconst (v := (0 : Int32)) (by decide) dX0_commit_18 ?_
  obtain ⟨rfl, rfl⟩ := Prod.mk.inj (Option.some.inj hB)
  exact gw_iret rfl rfl rfl dX0_commit_19
noncomputable def f_X0_commit (κ : gK) (F : Nat) (a1 : Option Nat) (a2 : Int32) (a3 : Option Nat) (s : gS) : Option (Int32 × gS) := f_X0_commit_0 κ F a1 a2 a3 s
theorem m_X0_commit {E : gE} {F : Nat} (a1 : Option Nat) (a2 : Int32) (a3 : Option Nat) (s : gS) (r : Int32) (s' : gS) (h : f_X0_commit (gk E) F a1 a2 a3 s = some (r, s')) : gCT E 13 yX0_commit (wsW_ yX0_commit cX0_commit 4 (some FieldType.int) [(0, 9, 12, 19), (0, 9, 15, 13)]) [vR a1, vI a2, vR a3] s (.inl (some (vI r))) s' := by
  refine gCT_ofH (fun h => absurd h (by decide)) (by decide) (Nat.le_of_ble_eq_true rfl) ?_
  exact gw_sub [0, 1, 2] rfl (w_X0_commit_0 _ _ _ _ h)
def dkwX0_drafted_0 : List UInt8 := [44, 3, 42, 27, 182, 0, 42, 133, 80, 167, 0, 9, 78, 4, 172, 78, 5, 172, 3, 172]
abbrev dktX0_drafted_0 : List UInt8 := dkwX0_drafted_0 ++ []
theorem dksX0_drafted_0 : cX0_drafted.data.toList.drop 0 = dktX0_drafted_0 := by decide +kernel
theorem dX0_drafted_0 : decode cX0_drafted 0 = .ok (.aload_n 2, 1) := dk_44 (dk_at dksX0_drafted_0 0 rfl rfl)
theorem dX0_drafted_1 : decode cX0_drafted 1 = .ok (.iconst 0, 1) := dk_3 (dk_at dksX0_drafted_0 1 rfl rfl)
theorem dX0_drafted_2 : decode cX0_drafted 2 = .ok (.aload_n 0, 1) := dk_42 (dk_at dksX0_drafted_0 2 rfl rfl)
theorem dX0_drafted_3 : decode cX0_drafted 3 = .ok (.iload_n 1, 1) := dk_27 (dk_at dksX0_drafted_0 3 rfl rfl)
theorem dX0_drafted_4 : decode cX0_drafted 4 = .ok (.invokevirtual 42, 3) := dk_182 0 42 (dk_at dksX0_drafted_0 4 rfl rfl)
theorem dX0_drafted_7 : decode cX0_drafted 7 = .ok (.i2l, 1) := dk_133 (dk_at dksX0_drafted_0 7 rfl rfl)
theorem dX0_drafted_8 : decode cX0_drafted 8 = .ok (.lastore, 1) := dk_80 (dk_at dksX0_drafted_0 8 rfl rfl)
theorem dX0_drafted_9 : decode cX0_drafted 9 = .ok (.goto 9, 3) := dk_167 0 9 (dk_at dksX0_drafted_0 9 rfl rfl)
theorem dX0_drafted_12 : decode cX0_drafted 12 = .ok (.astore_n 3, 1) := dk_78 (dk_at dksX0_drafted_0 12 rfl rfl)
theorem dX0_drafted_13 : decode cX0_drafted 13 = .ok (.iconst 1, 1) := dk_4 (dk_at dksX0_drafted_0 13 rfl rfl)
theorem dX0_drafted_14 : decode cX0_drafted 14 = .ok (.ireturn, 1) := dk_172 (dk_at dksX0_drafted_0 14 rfl rfl)
theorem dX0_drafted_15 : decode cX0_drafted 15 = .ok (.astore_n 3, 1) := dk_78 (dk_at dksX0_drafted_0 15 rfl rfl)
theorem dX0_drafted_16 : decode cX0_drafted 16 = .ok (.iconst 2, 1) := dk_5 (dk_at dksX0_drafted_0 16 rfl rfl)
theorem dX0_drafted_17 : decode cX0_drafted 17 = .ok (.ireturn, 1) := dk_172 (dk_at dksX0_drafted_0 17 rfl rfl)
theorem dX0_drafted_18 : decode cX0_drafted 18 = .ok (.iconst 0, 1) := dk_3 (dk_at dksX0_drafted_0 18 rfl rfl)
theorem dX0_drafted_19 : decode cX0_drafted 19 = .ok (.ireturn, 1) := dk_172 (dk_at dksX0_drafted_0 19 rfl rfl)
/-! PageGardenLaw.drafted(LPageGarden;I[J)I -/
abbrev M_X0_drafted (z0 n0 : Nat) (s' : gS) : gM := (RX0, cX0_drafted, 4, (some FieldType.int), "drafted", tableOf [(0, 9, 12, 19), (0, 9, 15, 13)], 13, z0, n0, s'.2.1, s'.2.2)
abbrev W_X0_drafted (E : gE) (z0 n0 : Nat) (r : Int32) (s' : gS) (pc : Nat) (L : List (Nat × gV)) (st : List gV) (s : gS) : Prop := gW E (M_X0_drafted z0 n0 s') (gQm E (M_X0_drafted z0 n0 s') (.inl (some (vI r))) s') pc L st s
noncomputable def f_X0_drafted_12 (κ : gK) (F : Nat)   (s : gS) : Option (Int32 × gS) :=
  some ((1 : Int32), s)
set_option maxHeartbeats 4000000 in
theorem w_X0_drafted_12 {E : gE} {F z0 n0 : Nat} {r : Int32} {s' : gS}   : ∀   (q : Option Nat) (s : gS), f_X0_drafted_12 (gk E) F   s = some (r, s') → W_X0_drafted E z0 n0 r s' 12 [] [vR q] s := by
  intro  q s hB
  unfold f_X0_drafted_12 at hB
  refine gw_astore_n (L' := [(3, vR q)]) (Nat.le_of_ble_eq_true rfl) rfl dX0_drafted_12 ?_
  refine gw_iconst (v := (1 : Int32)) (by decide) dX0_drafted_13 ?_
  obtain ⟨rfl, rfl⟩ := Prod.mk.inj (Option.some.inj hB)
  exact gw_iret rfl rfl rfl dX0_drafted_14
noncomputable def f_X0_drafted_15 (κ : gK) (F : Nat)   (s : gS) : Option (Int32 × gS) :=
  some ((2 : Int32), s)
set_option maxHeartbeats 4000000 in
theorem w_X0_drafted_15 {E : gE} {F z0 n0 : Nat} {r : Int32} {s' : gS}   : ∀   (q : Option Nat) (s : gS), f_X0_drafted_15 (gk E) F   s = some (r, s') → W_X0_drafted E z0 n0 r s' 15 [] [vR q] s := by
  intro  q s hB
  unfold f_X0_drafted_15 at hB
  refine gw_astore_n (L' := [(3, vR q)]) (Nat.le_of_ble_eq_true rfl) rfl dX0_drafted_15 ?_
  refine gw_iconst (v := (2 : Int32)) (by decide) dX0_drafted_16 ?_
  obtain ⟨rfl, rfl⟩ := Prod.mk.inj (Option.some.inj hB)
  exact gw_iret rfl rfl rfl dX0_drafted_17
noncomputable def f_X0_drafted_0 (κ : gK) (F : Nat)  (l0 : Option Nat) (l1 : Int32) (l2 : Option Nat) (s : gS) : Option (Int32 × gS) :=
  gB1 (gck s l0 0) fun _ =>
  gBy (f_X1_drafted κ F l0 l1 s) (fun Cv2 s1 =>
    if Cv2 = "java/lang/IllegalArgumentException" then f_X0_drafted_12 κ F  s1 else
    if Cv2 = "java/lang/IllegalStateException" then f_X0_drafted_15 κ F  s1 else
    none) <| fun v2 s1 =>
  gB1 (gsJ κ s1 l2 (0 : Int32) (v2.toInt64)) fun s4 =>
  some ((0 : Int32), s4)
set_option maxHeartbeats 4000000 in
theorem w_X0_drafted_0 {E : gE} {F z0 n0 : Nat} {r : Int32} {s' : gS}   : ∀ (l0 : Option Nat) (l1 : Int32) (l2 : Option Nat)  (s : gS), f_X0_drafted_0 (gk E) F  l0 l1 l2 s = some (r, s') → W_X0_drafted E z0 n0 r s' 0 [(0, vR l0), (1, vI l1), (2, vR l2)] [] s := by
  intro l0 l1 l2 s hB
  unfold f_X0_drafted_0 at hB
  refine gw_aload_n 2 rfl dX0_drafted_0 ?_
  refine gw_iconst (v := (0 : Int32)) (by decide) dX0_drafted_1 ?_
  refine gw_aload_n 0 rfl dX0_drafted_2 ?_
  refine gw_iload_n 1 rfl dX0_drafted_3 ?_
  obtain ⟨u0, hu3, hB⟩ := gB1_some hB
  rcases gBy_some hB with ⟨v2, s1, hv2, hB⟩ | ⟨Cv2, s1, hv2, hB⟩
  rotate_left
  · by_cases hc0 : Cv2 = "java/lang/IllegalArgumentException"
    · rw [if_pos hc0] at hB
      subst hc0
      exact gw_callV (y := yX1_drafted) (lw_V q2561 q2562 q2563 q108 q2564) hdV_X1_drafted gcl0 hu3 (As := [vI l1]) (rest := [vI (0 : Int32), vR l2]) (m_X1_drafted _ _ _ _ _ hv2) (Nat.le_of_ble_eq_true rfl) (Nat.le_of_ble_eq_true rfl) rfl (Nat.le_of_ble_eq_true rfl) dX0_drafted_4 (gCont_x (gx_catch (own := "PageGardenLaw") rfl [] ⟨0, 9, 12, 19⟩ [⟨0, 9, 15, 13⟩] rfl (fun z hz => by cases hz) rfl (by decide) q2505 q430 (tgt := 12) rfl (fun q => gw_sub [] rfl (w_X0_drafted_12  q _ hB))))
    · rw [if_neg hc0] at hB
      by_cases hc1 : Cv2 = "java/lang/IllegalStateException"
      · rw [if_pos hc1] at hB
        subst hc1
        exact gw_callV (y := yX1_drafted) (lw_V q2561 q2562 q2563 q108 q2564) hdV_X1_drafted gcl0 hu3 (As := [vI l1]) (rest := [vI (0 : Int32), vR l2]) (m_X1_drafted _ _ _ _ _ hv2) (Nat.le_of_ble_eq_true rfl) (Nat.le_of_ble_eq_true rfl) rfl (Nat.le_of_ble_eq_true rfl) dX0_drafted_4 (gCont_x (gx_catch (own := "PageGardenLaw") rfl [⟨0, 9, 12, 19⟩] ⟨0, 9, 15, 13⟩ [] rfl (fun z hz => by
          rcases List.mem_cons.mp hz with rfl | hz
          · exact Or.inr ⟨by decide, "java/lang/IllegalArgumentException", q2505, by decide⟩
          cases hz) rfl (by decide) q2497 q2020 (tgt := 15) rfl (fun q => gw_sub [] rfl (w_X0_drafted_15  q _ hB))))
      · rw [if_neg hc1] at hB
        cases hB
  refine gw_callV (y := yX1_drafted) (lw_V q2561 q2562 q2563 q108 q2564) hdV_X1_drafted gcl0 hu3 (As := [vI l1]) (rest := [vI (0 : Int32), vR l2]) (m_X1_drafted _ _ _ _ _ hv2) (Nat.le_of_ble_eq_true rfl) (Nat.le_of_ble_eq_true rfl) rfl (Nat.le_of_ble_eq_true rfl) dX0_drafted_4 (gCont_i ?_)
  refine gw_i2l dX0_drafted_7 ?_
  obtain ⟨s4, hs4, hB⟩ := gB1_some hB
  refine gw_lastore hs4 dX0_drafted_8 ?_
  refine gw_goto (tgt := 18) dX0_drafted_9 (by decide) ?_
  refine gw_iconst (v := (0 : Int32)) (by decide) dX0_drafted_18 ?_
  obtain ⟨rfl, rfl⟩ := Prod.mk.inj (Option.some.inj hB)
  exact gw_iret rfl rfl rfl dX0_drafted_19
noncomputable def f_X0_drafted (κ : gK) (F : Nat) (a1 : Option Nat) (a2 : Int32) (a3 : Option Nat) (s : gS) : Option (Int32 × gS) := f_X0_drafted_0 κ F a1 a2 a3 s
theorem m_X0_drafted {E : gE} {F : Nat} (a1 : Option Nat) (a2 : Int32) (a3 : Option Nat) (s : gS) (r : Int32) (s' : gS) (h : f_X0_drafted (gk E) F a1 a2 a3 s = some (r, s')) : gCT E 13 yX0_drafted (wsW_ yX0_drafted cX0_drafted 4 (some FieldType.int) [(0, 9, 12, 19), (0, 9, 15, 13)]) [vR a1, vI a2, vR a3] s (.inl (some (vI r))) s' := by
  refine gCT_ofH (fun h => absurd h (by decide)) (by decide) (Nat.le_of_ble_eq_true rfl) ?_
  exact gw_sub [0, 1, 2] rfl (w_X0_drafted_0 _ _ _ _ h)
def dkwX0_entry_0 : List UInt8 := [45, 3, 42, 27, 28, 182, 0, 48, 133, 80, 167, 0, 11, 58, 4, 4, 172, 58, 4, 5, 172, 3, 172]
abbrev dktX0_entry_0 : List UInt8 := dkwX0_entry_0 ++ []
theorem dksX0_entry_0 : cX0_entry.data.toList.drop 0 = dktX0_entry_0 := by decide +kernel
theorem dX0_entry_0 : decode cX0_entry 0 = .ok (.aload_n 3, 1) := dk_45 (dk_at dksX0_entry_0 0 rfl rfl)
theorem dX0_entry_1 : decode cX0_entry 1 = .ok (.iconst 0, 1) := dk_3 (dk_at dksX0_entry_0 1 rfl rfl)
theorem dX0_entry_2 : decode cX0_entry 2 = .ok (.aload_n 0, 1) := dk_42 (dk_at dksX0_entry_0 2 rfl rfl)
theorem dX0_entry_3 : decode cX0_entry 3 = .ok (.iload_n 1, 1) := dk_27 (dk_at dksX0_entry_0 3 rfl rfl)
theorem dX0_entry_4 : decode cX0_entry 4 = .ok (.iload_n 2, 1) := dk_28 (dk_at dksX0_entry_0 4 rfl rfl)
theorem dX0_entry_5 : decode cX0_entry 5 = .ok (.invokevirtual 48, 3) := dk_182 0 48 (dk_at dksX0_entry_0 5 rfl rfl)
theorem dX0_entry_8 : decode cX0_entry 8 = .ok (.i2l, 1) := dk_133 (dk_at dksX0_entry_0 8 rfl rfl)
theorem dX0_entry_9 : decode cX0_entry 9 = .ok (.lastore, 1) := dk_80 (dk_at dksX0_entry_0 9 rfl rfl)
theorem dX0_entry_10 : decode cX0_entry 10 = .ok (.goto 11, 3) := dk_167 0 11 (dk_at dksX0_entry_0 10 rfl rfl)
theorem dX0_entry_13 : decode cX0_entry 13 = .ok (.astore 4, 2) := dk_58 4 (dk_at dksX0_entry_0 13 rfl rfl)
theorem dX0_entry_15 : decode cX0_entry 15 = .ok (.iconst 1, 1) := dk_4 (dk_at dksX0_entry_0 15 rfl rfl)
theorem dX0_entry_16 : decode cX0_entry 16 = .ok (.ireturn, 1) := dk_172 (dk_at dksX0_entry_0 16 rfl rfl)
theorem dX0_entry_17 : decode cX0_entry 17 = .ok (.astore 4, 2) := dk_58 4 (dk_at dksX0_entry_0 17 rfl rfl)
theorem dX0_entry_19 : decode cX0_entry 19 = .ok (.iconst 2, 1) := dk_5 (dk_at dksX0_entry_0 19 rfl rfl)
theorem dX0_entry_20 : decode cX0_entry 20 = .ok (.ireturn, 1) := dk_172 (dk_at dksX0_entry_0 20 rfl rfl)
theorem dX0_entry_21 : decode cX0_entry 21 = .ok (.iconst 0, 1) := dk_3 (dk_at dksX0_entry_0 21 rfl rfl)
theorem dX0_entry_22 : decode cX0_entry 22 = .ok (.ireturn, 1) := dk_172 (dk_at dksX0_entry_0 22 rfl rfl)
/-! PageGardenLaw.entry(LPageGarden;II[J)I -/
abbrev M_X0_entry (z0 n0 : Nat) (s' : gS) : gM := (RX0, cX0_entry, 5, (some FieldType.int), "entry", tableOf [(0, 10, 13, 37), (0, 10, 17, 19)], 12, z0, n0, s'.2.1, s'.2.2)
abbrev W_X0_entry (E : gE) (z0 n0 : Nat) (r : Int32) (s' : gS) (pc : Nat) (L : List (Nat × gV)) (st : List gV) (s : gS) : Prop := gW E (M_X0_entry z0 n0 s') (gQm E (M_X0_entry z0 n0 s') (.inl (some (vI r))) s') pc L st s
noncomputable def f_X0_entry_13 (κ : gK) (F : Nat)   (s : gS) : Option (Int32 × gS) :=
  some ((1 : Int32), s)
set_option maxHeartbeats 4000000 in
theorem w_X0_entry_13 {E : gE} {F z0 n0 : Nat} {r : Int32} {s' : gS}   : ∀   (q : Option Nat) (s : gS), f_X0_entry_13 (gk E) F   s = some (r, s') → W_X0_entry E z0 n0 r s' 13 [] [vR q] s := by
  intro  q s hB
  unfold f_X0_entry_13 at hB
  refine gw_astore (L' := [(4, vR q)]) (Nat.le_of_ble_eq_true rfl) rfl dX0_entry_13 ?_
  refine gw_iconst (v := (1 : Int32)) (by decide) dX0_entry_15 ?_
  obtain ⟨rfl, rfl⟩ := Prod.mk.inj (Option.some.inj hB)
  exact gw_iret rfl rfl rfl dX0_entry_16
noncomputable def f_X0_entry_17 (κ : gK) (F : Nat)   (s : gS) : Option (Int32 × gS) :=
  some ((2 : Int32), s)
set_option maxHeartbeats 4000000 in
theorem w_X0_entry_17 {E : gE} {F z0 n0 : Nat} {r : Int32} {s' : gS}   : ∀   (q : Option Nat) (s : gS), f_X0_entry_17 (gk E) F   s = some (r, s') → W_X0_entry E z0 n0 r s' 17 [] [vR q] s := by
  intro  q s hB
  unfold f_X0_entry_17 at hB
  refine gw_astore (L' := [(4, vR q)]) (Nat.le_of_ble_eq_true rfl) rfl dX0_entry_17 ?_
  refine gw_iconst (v := (2 : Int32)) (by decide) dX0_entry_19 ?_
  obtain ⟨rfl, rfl⟩ := Prod.mk.inj (Option.some.inj hB)
  exact gw_iret rfl rfl rfl dX0_entry_20
noncomputable def f_X0_entry_0 (κ : gK) (F : Nat)  (l0 : Option Nat) (l1 : Int32) (l2 : Int32) (l3 : Option Nat) (s : gS) : Option (Int32 × gS) :=
  gB1 (gck s l0 0) fun _ =>
  gBy (f_X1_entry κ F l0 l1 l2 s) (fun Cv2 s1 =>
    if Cv2 = "java/lang/IndexOutOfBoundsException" then f_X0_entry_13 κ F  s1 else
    if Cv2 = "java/lang/IllegalArgumentException" then f_X0_entry_17 κ F  s1 else
    none) <| fun v2 s1 =>
  gB1 (gsJ κ s1 l3 (0 : Int32) (v2.toInt64)) fun s4 =>
  some ((0 : Int32), s4)
set_option maxHeartbeats 4000000 in
theorem w_X0_entry_0 {E : gE} {F z0 n0 : Nat} {r : Int32} {s' : gS}   : ∀ (l0 : Option Nat) (l1 : Int32) (l2 : Int32) (l3 : Option Nat)  (s : gS), f_X0_entry_0 (gk E) F  l0 l1 l2 l3 s = some (r, s') → W_X0_entry E z0 n0 r s' 0 [(0, vR l0), (1, vI l1), (2, vI l2), (3, vR l3)] [] s := by
  intro l0 l1 l2 l3 s hB
  unfold f_X0_entry_0 at hB
  refine gw_aload_n 3 rfl dX0_entry_0 ?_
  refine gw_iconst (v := (0 : Int32)) (by decide) dX0_entry_1 ?_
  refine gw_aload_n 0 rfl dX0_entry_2 ?_
  refine gw_iload_n 1 rfl dX0_entry_3 ?_
  refine gw_iload_n 2 rfl dX0_entry_4 ?_
  obtain ⟨u0, hu3, hB⟩ := gB1_some hB
  rcases gBy_some hB with ⟨v2, s1, hv2, hB⟩ | ⟨Cv2, s1, hv2, hB⟩
  rotate_left
  · by_cases hc0 : Cv2 = "java/lang/IndexOutOfBoundsException"
    · rw [if_pos hc0] at hB
      subst hc0
      exact gw_callV (y := yX1_entry) (lw_V q2578 q2579 q2580 q108 q2581) hdV_X1_entry gcl0 hu3 (As := [vI l1, vI l2]) (rest := [vI (0 : Int32), vR l3]) (m_X1_entry _ _ _ _ _ _ hv2) (Nat.le_of_ble_eq_true rfl) (Nat.le_of_ble_eq_true rfl) rfl (Nat.le_of_ble_eq_true rfl) dX0_entry_5 (gCont_x (gx_catch (own := "PageGardenLaw") rfl [] ⟨0, 10, 13, 37⟩ [⟨0, 10, 17, 19⟩] rfl (fun z hz => by cases hz) rfl (by decide) q2541 q2286 (tgt := 13) rfl (fun q => gw_sub [] rfl (w_X0_entry_13  q _ hB))))
    · rw [if_neg hc0] at hB
      by_cases hc1 : Cv2 = "java/lang/IllegalArgumentException"
      · rw [if_pos hc1] at hB
        subst hc1
        exact gw_callV (y := yX1_entry) (lw_V q2578 q2579 q2580 q108 q2581) hdV_X1_entry gcl0 hu3 (As := [vI l1, vI l2]) (rest := [vI (0 : Int32), vR l3]) (m_X1_entry _ _ _ _ _ _ hv2) (Nat.le_of_ble_eq_true rfl) (Nat.le_of_ble_eq_true rfl) rfl (Nat.le_of_ble_eq_true rfl) dX0_entry_5 (gCont_x (gx_catch (own := "PageGardenLaw") rfl [⟨0, 10, 13, 37⟩] ⟨0, 10, 17, 19⟩ [] rfl (fun z hz => by
          rcases List.mem_cons.mp hz with rfl | hz
          · exact Or.inr ⟨by decide, "java/lang/IndexOutOfBoundsException", q2541, by decide⟩
          cases hz) rfl (by decide) q2505 q430 (tgt := 17) rfl (fun q => gw_sub [] rfl (w_X0_entry_17  q _ hB))))
      · rw [if_neg hc1] at hB
        cases hB
  refine gw_callV (y := yX1_entry) (lw_V q2578 q2579 q2580 q108 q2581) hdV_X1_entry gcl0 hu3 (As := [vI l1, vI l2]) (rest := [vI (0 : Int32), vR l3]) (m_X1_entry _ _ _ _ _ _ hv2) (Nat.le_of_ble_eq_true rfl) (Nat.le_of_ble_eq_true rfl) rfl (Nat.le_of_ble_eq_true rfl) dX0_entry_5 (gCont_i ?_)
  refine gw_i2l dX0_entry_8 ?_
  obtain ⟨s4, hs4, hB⟩ := gB1_some hB
  refine gw_lastore hs4 dX0_entry_9 ?_
  refine gw_goto (tgt := 21) dX0_entry_10 (by decide) ?_
  refine gw_iconst (v := (0 : Int32)) (by decide) dX0_entry_21 ?_
  obtain ⟨rfl, rfl⟩ := Prod.mk.inj (Option.some.inj hB)
  exact gw_iret rfl rfl rfl dX0_entry_22
noncomputable def f_X0_entry (κ : gK) (F : Nat) (a1 : Option Nat) (a2 : Int32) (a3 : Int32) (a4 : Option Nat) (s : gS) : Option (Int32 × gS) := f_X0_entry_0 κ F a1 a2 a3 a4 s
theorem m_X0_entry {E : gE} {F : Nat} (a1 : Option Nat) (a2 : Int32) (a3 : Int32) (a4 : Option Nat) (s : gS) (r : Int32) (s' : gS) (h : f_X0_entry (gk E) F a1 a2 a3 a4 s = some (r, s')) : gCT E 12 yX0_entry (wsW_ yX0_entry cX0_entry 5 (some FieldType.int) [(0, 10, 13, 37), (0, 10, 17, 19)]) [vR a1, vI a2, vI a3, vR a4] s (.inl (some (vI r))) s' := by
  refine gCT_ofH (fun h => absurd h (by decide)) (by decide) (Nat.le_of_ble_eq_true rfl) ?_
  exact gw_sub [0, 1, 2, 3] rfl (w_X0_entry_0 _ _ _ _ _ h)
def dkwX0_get_0 : List UInt8 := [44, 3, 42, 27, 182, 0, 39, 133, 80, 167, 0, 6, 78, 4, 172, 3, 172]
abbrev dktX0_get_0 : List UInt8 := dkwX0_get_0 ++ []
theorem dksX0_get_0 : cX0_get.data.toList.drop 0 = dktX0_get_0 := by decide +kernel
theorem dX0_get_0 : decode cX0_get 0 = .ok (.aload_n 2, 1) := dk_44 (dk_at dksX0_get_0 0 rfl rfl)
theorem dX0_get_1 : decode cX0_get 1 = .ok (.iconst 0, 1) := dk_3 (dk_at dksX0_get_0 1 rfl rfl)
theorem dX0_get_2 : decode cX0_get 2 = .ok (.aload_n 0, 1) := dk_42 (dk_at dksX0_get_0 2 rfl rfl)
theorem dX0_get_3 : decode cX0_get 3 = .ok (.iload_n 1, 1) := dk_27 (dk_at dksX0_get_0 3 rfl rfl)
theorem dX0_get_4 : decode cX0_get 4 = .ok (.invokevirtual 39, 3) := dk_182 0 39 (dk_at dksX0_get_0 4 rfl rfl)
theorem dX0_get_7 : decode cX0_get 7 = .ok (.i2l, 1) := dk_133 (dk_at dksX0_get_0 7 rfl rfl)
theorem dX0_get_8 : decode cX0_get 8 = .ok (.lastore, 1) := dk_80 (dk_at dksX0_get_0 8 rfl rfl)
theorem dX0_get_9 : decode cX0_get 9 = .ok (.goto 6, 3) := dk_167 0 6 (dk_at dksX0_get_0 9 rfl rfl)
theorem dX0_get_12 : decode cX0_get 12 = .ok (.astore_n 3, 1) := dk_78 (dk_at dksX0_get_0 12 rfl rfl)
theorem dX0_get_13 : decode cX0_get 13 = .ok (.iconst 1, 1) := dk_4 (dk_at dksX0_get_0 13 rfl rfl)
theorem dX0_get_14 : decode cX0_get 14 = .ok (.ireturn, 1) := dk_172 (dk_at dksX0_get_0 14 rfl rfl)
theorem dX0_get_15 : decode cX0_get 15 = .ok (.iconst 0, 1) := dk_3 (dk_at dksX0_get_0 15 rfl rfl)
theorem dX0_get_16 : decode cX0_get 16 = .ok (.ireturn, 1) := dk_172 (dk_at dksX0_get_0 16 rfl rfl)
/-! PageGardenLaw.get(LPageGarden;I[J)I -/
abbrev M_X0_get (z0 n0 : Nat) (s' : gS) : gM := (RX0, cX0_get, 4, (some FieldType.int), "get", tableOf [(0, 9, 12, 19)], 12, z0, n0, s'.2.1, s'.2.2)
abbrev W_X0_get (E : gE) (z0 n0 : Nat) (r : Int32) (s' : gS) (pc : Nat) (L : List (Nat × gV)) (st : List gV) (s : gS) : Prop := gW E (M_X0_get z0 n0 s') (gQm E (M_X0_get z0 n0 s') (.inl (some (vI r))) s') pc L st s
noncomputable def f_X0_get_12 (κ : gK) (F : Nat)   (s : gS) : Option (Int32 × gS) :=
  some ((1 : Int32), s)
set_option maxHeartbeats 4000000 in
theorem w_X0_get_12 {E : gE} {F z0 n0 : Nat} {r : Int32} {s' : gS}   : ∀   (q : Option Nat) (s : gS), f_X0_get_12 (gk E) F   s = some (r, s') → W_X0_get E z0 n0 r s' 12 [] [vR q] s := by
  intro  q s hB
  unfold f_X0_get_12 at hB
  refine gw_astore_n (L' := [(3, vR q)]) (Nat.le_of_ble_eq_true rfl) rfl dX0_get_12 ?_
  refine gw_iconst (v := (1 : Int32)) (by decide) dX0_get_13 ?_
  obtain ⟨rfl, rfl⟩ := Prod.mk.inj (Option.some.inj hB)
  exact gw_iret rfl rfl rfl dX0_get_14
noncomputable def f_X0_get_0 (κ : gK) (F : Nat)  (l0 : Option Nat) (l1 : Int32) (l2 : Option Nat) (s : gS) : Option (Int32 × gS) :=
  gB1 (gck s l0 0) fun _ =>
  gBy (f_X1_get κ F l0 l1 s) (fun Cv2 s1 =>
    if Cv2 = "java/lang/IllegalArgumentException" then f_X0_get_12 κ F  s1 else
    none) <| fun v2 s1 =>
  gB1 (gsJ κ s1 l2 (0 : Int32) (v2.toInt64)) fun s4 =>
  some ((0 : Int32), s4)
set_option maxHeartbeats 4000000 in
theorem w_X0_get_0 {E : gE} {F z0 n0 : Nat} {r : Int32} {s' : gS}   : ∀ (l0 : Option Nat) (l1 : Int32) (l2 : Option Nat)  (s : gS), f_X0_get_0 (gk E) F  l0 l1 l2 s = some (r, s') → W_X0_get E z0 n0 r s' 0 [(0, vR l0), (1, vI l1), (2, vR l2)] [] s := by
  intro l0 l1 l2 s hB
  unfold f_X0_get_0 at hB
  refine gw_aload_n 2 rfl dX0_get_0 ?_
  refine gw_iconst (v := (0 : Int32)) (by decide) dX0_get_1 ?_
  refine gw_aload_n 0 rfl dX0_get_2 ?_
  refine gw_iload_n 1 rfl dX0_get_3 ?_
  obtain ⟨u0, hu3, hB⟩ := gB1_some hB
  rcases gBy_some hB with ⟨v2, s1, hv2, hB⟩ | ⟨Cv2, s1, hv2, hB⟩
  rotate_left
  · by_cases hc0 : Cv2 = "java/lang/IllegalArgumentException"
    · rw [if_pos hc0] at hB
      subst hc0
      exact gw_callV (y := yX1_get) (lw_V q2549 q2550 q2551 q108 q2552) hdV_X1_get gcl0 hu3 (As := [vI l1]) (rest := [vI (0 : Int32), vR l2]) (m_X1_get _ _ _ _ _ hv2) (Nat.le_of_ble_eq_true rfl) (Nat.le_of_ble_eq_true rfl) rfl (Nat.le_of_ble_eq_true rfl) dX0_get_4 (gCont_x (gx_catch (own := "PageGardenLaw") rfl [] ⟨0, 9, 12, 19⟩ [] rfl (fun z hz => by cases hz) rfl (by decide) q2505 q430 (tgt := 12) rfl (fun q => gw_sub [] rfl (w_X0_get_12  q _ hB))))
    · rw [if_neg hc0] at hB
      cases hB
  refine gw_callV (y := yX1_get) (lw_V q2549 q2550 q2551 q108 q2552) hdV_X1_get gcl0 hu3 (As := [vI l1]) (rest := [vI (0 : Int32), vR l2]) (m_X1_get _ _ _ _ _ hv2) (Nat.le_of_ble_eq_true rfl) (Nat.le_of_ble_eq_true rfl) rfl (Nat.le_of_ble_eq_true rfl) dX0_get_4 (gCont_i ?_)
  refine gw_i2l dX0_get_7 ?_
  obtain ⟨s4, hs4, hB⟩ := gB1_some hB
  refine gw_lastore hs4 dX0_get_8 ?_
  refine gw_goto (tgt := 15) dX0_get_9 (by decide) ?_
  refine gw_iconst (v := (0 : Int32)) (by decide) dX0_get_15 ?_
  obtain ⟨rfl, rfl⟩ := Prod.mk.inj (Option.some.inj hB)
  exact gw_iret rfl rfl rfl dX0_get_16
noncomputable def f_X0_get (κ : gK) (F : Nat) (a1 : Option Nat) (a2 : Int32) (a3 : Option Nat) (s : gS) : Option (Int32 × gS) := f_X0_get_0 κ F a1 a2 a3 s
theorem m_X0_get {E : gE} {F : Nat} (a1 : Option Nat) (a2 : Int32) (a3 : Option Nat) (s : gS) (r : Int32) (s' : gS) (h : f_X0_get (gk E) F a1 a2 a3 s = some (r, s')) : gCT E 12 yX0_get (wsW_ yX0_get cX0_get 4 (some FieldType.int) [(0, 9, 12, 19)]) [vR a1, vI a2, vR a3] s (.inl (some (vI r))) s' := by
  refine gCT_ofH (fun h => absurd h (by decide)) (by decide) (Nat.le_of_ble_eq_true rfl) ?_
  exact gw_sub [0, 1, 2] rfl (w_X0_get_0 _ _ _ _ h)
def dkwX0_neededWithout_0 : List UInt8 := [44, 3, 42, 27, 182, 0, 69, 133, 80, 167, 0, 9, 78, 4, 172, 78, 5, 172, 3, 172]
abbrev dktX0_neededWithout_0 : List UInt8 := dkwX0_neededWithout_0 ++ []
theorem dksX0_neededWithout_0 : cX0_neededWithout.data.toList.drop 0 = dktX0_neededWithout_0 := by decide +kernel
theorem dX0_neededWithout_0 : decode cX0_neededWithout 0 = .ok (.aload_n 2, 1) := dk_44 (dk_at dksX0_neededWithout_0 0 rfl rfl)
theorem dX0_neededWithout_1 : decode cX0_neededWithout 1 = .ok (.iconst 0, 1) := dk_3 (dk_at dksX0_neededWithout_0 1 rfl rfl)
theorem dX0_neededWithout_2 : decode cX0_neededWithout 2 = .ok (.aload_n 0, 1) := dk_42 (dk_at dksX0_neededWithout_0 2 rfl rfl)
theorem dX0_neededWithout_3 : decode cX0_neededWithout 3 = .ok (.iload_n 1, 1) := dk_27 (dk_at dksX0_neededWithout_0 3 rfl rfl)
theorem dX0_neededWithout_4 : decode cX0_neededWithout 4 = .ok (.invokevirtual 69, 3) := dk_182 0 69 (dk_at dksX0_neededWithout_0 4 rfl rfl)
theorem dX0_neededWithout_7 : decode cX0_neededWithout 7 = .ok (.i2l, 1) := dk_133 (dk_at dksX0_neededWithout_0 7 rfl rfl)
theorem dX0_neededWithout_8 : decode cX0_neededWithout 8 = .ok (.lastore, 1) := dk_80 (dk_at dksX0_neededWithout_0 8 rfl rfl)
theorem dX0_neededWithout_9 : decode cX0_neededWithout 9 = .ok (.goto 9, 3) := dk_167 0 9 (dk_at dksX0_neededWithout_0 9 rfl rfl)
theorem dX0_neededWithout_12 : decode cX0_neededWithout 12 = .ok (.astore_n 3, 1) := dk_78 (dk_at dksX0_neededWithout_0 12 rfl rfl)
theorem dX0_neededWithout_13 : decode cX0_neededWithout 13 = .ok (.iconst 1, 1) := dk_4 (dk_at dksX0_neededWithout_0 13 rfl rfl)
theorem dX0_neededWithout_14 : decode cX0_neededWithout 14 = .ok (.ireturn, 1) := dk_172 (dk_at dksX0_neededWithout_0 14 rfl rfl)
theorem dX0_neededWithout_15 : decode cX0_neededWithout 15 = .ok (.astore_n 3, 1) := dk_78 (dk_at dksX0_neededWithout_0 15 rfl rfl)
theorem dX0_neededWithout_16 : decode cX0_neededWithout 16 = .ok (.iconst 2, 1) := dk_5 (dk_at dksX0_neededWithout_0 16 rfl rfl)
theorem dX0_neededWithout_17 : decode cX0_neededWithout 17 = .ok (.ireturn, 1) := dk_172 (dk_at dksX0_neededWithout_0 17 rfl rfl)
theorem dX0_neededWithout_18 : decode cX0_neededWithout 18 = .ok (.iconst 0, 1) := dk_3 (dk_at dksX0_neededWithout_0 18 rfl rfl)
theorem dX0_neededWithout_19 : decode cX0_neededWithout 19 = .ok (.ireturn, 1) := dk_172 (dk_at dksX0_neededWithout_0 19 rfl rfl)
/-! PageGardenLaw.neededWithout(LPageGarden;I[J)I -/
abbrev M_X0_neededWithout (z0 n0 : Nat) (s' : gS) : gM := (RX0, cX0_neededWithout, 4, (some FieldType.int), "neededWithout", tableOf [(0, 9, 12, 37), (0, 9, 15, 13)], 12, z0, n0, s'.2.1, s'.2.2)
abbrev W_X0_neededWithout (E : gE) (z0 n0 : Nat) (r : Int32) (s' : gS) (pc : Nat) (L : List (Nat × gV)) (st : List gV) (s : gS) : Prop := gW E (M_X0_neededWithout z0 n0 s') (gQm E (M_X0_neededWithout z0 n0 s') (.inl (some (vI r))) s') pc L st s
noncomputable def f_X0_neededWithout_12 (κ : gK) (F : Nat)   (s : gS) : Option (Int32 × gS) :=
  some ((1 : Int32), s)
set_option maxHeartbeats 4000000 in
theorem w_X0_neededWithout_12 {E : gE} {F z0 n0 : Nat} {r : Int32} {s' : gS}   : ∀   (q : Option Nat) (s : gS), f_X0_neededWithout_12 (gk E) F   s = some (r, s') → W_X0_neededWithout E z0 n0 r s' 12 [] [vR q] s := by
  intro  q s hB
  unfold f_X0_neededWithout_12 at hB
  refine gw_astore_n (L' := [(3, vR q)]) (Nat.le_of_ble_eq_true rfl) rfl dX0_neededWithout_12 ?_
  refine gw_iconst (v := (1 : Int32)) (by decide) dX0_neededWithout_13 ?_
  obtain ⟨rfl, rfl⟩ := Prod.mk.inj (Option.some.inj hB)
  exact gw_iret rfl rfl rfl dX0_neededWithout_14
noncomputable def f_X0_neededWithout_15 (κ : gK) (F : Nat)   (s : gS) : Option (Int32 × gS) :=
  some ((2 : Int32), s)
set_option maxHeartbeats 4000000 in
theorem w_X0_neededWithout_15 {E : gE} {F z0 n0 : Nat} {r : Int32} {s' : gS}   : ∀   (q : Option Nat) (s : gS), f_X0_neededWithout_15 (gk E) F   s = some (r, s') → W_X0_neededWithout E z0 n0 r s' 15 [] [vR q] s := by
  intro  q s hB
  unfold f_X0_neededWithout_15 at hB
  refine gw_astore_n (L' := [(3, vR q)]) (Nat.le_of_ble_eq_true rfl) rfl dX0_neededWithout_15 ?_
  refine gw_iconst (v := (2 : Int32)) (by decide) dX0_neededWithout_16 ?_
  obtain ⟨rfl, rfl⟩ := Prod.mk.inj (Option.some.inj hB)
  exact gw_iret rfl rfl rfl dX0_neededWithout_17
noncomputable def f_X0_neededWithout_0 (κ : gK) (F : Nat)  (l0 : Option Nat) (l1 : Int32) (l2 : Option Nat) (s : gS) : Option (Int32 × gS) :=
  gB1 (gck s l0 0) fun _ =>
  gBy (f_X1_neededWithout κ F l0 l1 s) (fun Cv2 s1 =>
    if Cv2 = "java/lang/IndexOutOfBoundsException" then f_X0_neededWithout_12 κ F  s1 else
    if Cv2 = "java/lang/IllegalStateException" then f_X0_neededWithout_15 κ F  s1 else
    none) <| fun v2 s1 =>
  gB1 (gsJ κ s1 l2 (0 : Int32) (v2.toInt64)) fun s4 =>
  some ((0 : Int32), s4)
set_option maxHeartbeats 4000000 in
theorem w_X0_neededWithout_0 {E : gE} {F z0 n0 : Nat} {r : Int32} {s' : gS}   : ∀ (l0 : Option Nat) (l1 : Int32) (l2 : Option Nat)  (s : gS), f_X0_neededWithout_0 (gk E) F  l0 l1 l2 s = some (r, s') → W_X0_neededWithout E z0 n0 r s' 0 [(0, vR l0), (1, vI l1), (2, vR l2)] [] s := by
  intro l0 l1 l2 s hB
  unfold f_X0_neededWithout_0 at hB
  refine gw_aload_n 2 rfl dX0_neededWithout_0 ?_
  refine gw_iconst (v := (0 : Int32)) (by decide) dX0_neededWithout_1 ?_
  refine gw_aload_n 0 rfl dX0_neededWithout_2 ?_
  refine gw_iload_n 1 rfl dX0_neededWithout_3 ?_
  obtain ⟨u0, hu3, hB⟩ := gB1_some hB
  rcases gBy_some hB with ⟨v2, s1, hv2, hB⟩ | ⟨Cv2, s1, hv2, hB⟩
  rotate_left
  · by_cases hc0 : Cv2 = "java/lang/IndexOutOfBoundsException"
    · rw [if_pos hc0] at hB
      subst hc0
      exact gw_callV (y := yX1_neededWithout) (lw_V q2639 q2640 q2641 q108 q2642) hdV_X1_neededWithout gcl0 hu3 (As := [vI l1]) (rest := [vI (0 : Int32), vR l2]) (m_X1_neededWithout _ _ _ _ _ hv2) (Nat.le_of_ble_eq_true rfl) (Nat.le_of_ble_eq_true rfl) rfl (Nat.le_of_ble_eq_true rfl) dX0_neededWithout_4 (gCont_x (gx_catch (own := "PageGardenLaw") rfl [] ⟨0, 9, 12, 37⟩ [⟨0, 9, 15, 13⟩] rfl (fun z hz => by cases hz) rfl (by decide) q2541 q2286 (tgt := 12) rfl (fun q => gw_sub [] rfl (w_X0_neededWithout_12  q _ hB))))
    · rw [if_neg hc0] at hB
      by_cases hc1 : Cv2 = "java/lang/IllegalStateException"
      · rw [if_pos hc1] at hB
        subst hc1
        exact gw_callV (y := yX1_neededWithout) (lw_V q2639 q2640 q2641 q108 q2642) hdV_X1_neededWithout gcl0 hu3 (As := [vI l1]) (rest := [vI (0 : Int32), vR l2]) (m_X1_neededWithout _ _ _ _ _ hv2) (Nat.le_of_ble_eq_true rfl) (Nat.le_of_ble_eq_true rfl) rfl (Nat.le_of_ble_eq_true rfl) dX0_neededWithout_4 (gCont_x (gx_catch (own := "PageGardenLaw") rfl [⟨0, 9, 12, 37⟩] ⟨0, 9, 15, 13⟩ [] rfl (fun z hz => by
          rcases List.mem_cons.mp hz with rfl | hz
          · exact Or.inr ⟨by decide, "java/lang/IndexOutOfBoundsException", q2541, by decide⟩
          cases hz) rfl (by decide) q2497 q2020 (tgt := 15) rfl (fun q => gw_sub [] rfl (w_X0_neededWithout_15  q _ hB))))
      · rw [if_neg hc1] at hB
        cases hB
  refine gw_callV (y := yX1_neededWithout) (lw_V q2639 q2640 q2641 q108 q2642) hdV_X1_neededWithout gcl0 hu3 (As := [vI l1]) (rest := [vI (0 : Int32), vR l2]) (m_X1_neededWithout _ _ _ _ _ hv2) (Nat.le_of_ble_eq_true rfl) (Nat.le_of_ble_eq_true rfl) rfl (Nat.le_of_ble_eq_true rfl) dX0_neededWithout_4 (gCont_i ?_)
  refine gw_i2l dX0_neededWithout_7 ?_
  obtain ⟨s4, hs4, hB⟩ := gB1_some hB
  refine gw_lastore hs4 dX0_neededWithout_8 ?_
  refine gw_goto (tgt := 18) dX0_neededWithout_9 (by decide) ?_
  refine gw_iconst (v := (0 : Int32)) (by decide) dX0_neededWithout_18 ?_
  obtain ⟨rfl, rfl⟩ := Prod.mk.inj (Option.some.inj hB)
  exact gw_iret rfl rfl rfl dX0_neededWithout_19
noncomputable def f_X0_neededWithout (κ : gK) (F : Nat) (a1 : Option Nat) (a2 : Int32) (a3 : Option Nat) (s : gS) : Option (Int32 × gS) := f_X0_neededWithout_0 κ F a1 a2 a3 s
theorem m_X0_neededWithout {E : gE} {F : Nat} (a1 : Option Nat) (a2 : Int32) (a3 : Option Nat) (s : gS) (r : Int32) (s' : gS) (h : f_X0_neededWithout (gk E) F a1 a2 a3 s = some (r, s')) : gCT E 12 yX0_neededWithout (wsW_ yX0_neededWithout cX0_neededWithout 4 (some FieldType.int) [(0, 9, 12, 37), (0, 9, 15, 13)]) [vR a1, vI a2, vR a3] s (.inl (some (vI r))) s' := by
  refine gCT_ofH (fun h => absurd h (by decide)) (by decide) (Nat.le_of_ble_eq_true rfl) ?_
  exact gw_sub [0, 1, 2] rfl (w_X0_neededWithout_0 _ _ _ _ h)
def dkwX0_open_0 : List UInt8 := [43, 3, 42, 182, 0, 31, 133, 80, 167, 0, 6, 77, 4, 172, 3, 172]
abbrev dktX0_open_0 : List UInt8 := dkwX0_open_0 ++ []
theorem dksX0_open_0 : cX0_open.data.toList.drop 0 = dktX0_open_0 := by decide +kernel
theorem dX0_open_0 : decode cX0_open 0 = .ok (.aload_n 1, 1) := dk_43 (dk_at dksX0_open_0 0 rfl rfl)
theorem dX0_open_1 : decode cX0_open 1 = .ok (.iconst 0, 1) := dk_3 (dk_at dksX0_open_0 1 rfl rfl)
theorem dX0_open_2 : decode cX0_open 2 = .ok (.aload_n 0, 1) := dk_42 (dk_at dksX0_open_0 2 rfl rfl)
theorem dX0_open_3 : decode cX0_open 3 = .ok (.invokevirtual 31, 3) := dk_182 0 31 (dk_at dksX0_open_0 3 rfl rfl)
theorem dX0_open_6 : decode cX0_open 6 = .ok (.i2l, 1) := dk_133 (dk_at dksX0_open_0 6 rfl rfl)
theorem dX0_open_7 : decode cX0_open 7 = .ok (.lastore, 1) := dk_80 (dk_at dksX0_open_0 7 rfl rfl)
theorem dX0_open_8 : decode cX0_open 8 = .ok (.goto 6, 3) := dk_167 0 6 (dk_at dksX0_open_0 8 rfl rfl)
theorem dX0_open_11 : decode cX0_open 11 = .ok (.astore_n 2, 1) := dk_77 (dk_at dksX0_open_0 11 rfl rfl)
theorem dX0_open_12 : decode cX0_open 12 = .ok (.iconst 1, 1) := dk_4 (dk_at dksX0_open_0 12 rfl rfl)
theorem dX0_open_13 : decode cX0_open 13 = .ok (.ireturn, 1) := dk_172 (dk_at dksX0_open_0 13 rfl rfl)
theorem dX0_open_14 : decode cX0_open 14 = .ok (.iconst 0, 1) := dk_3 (dk_at dksX0_open_0 14 rfl rfl)
theorem dX0_open_15 : decode cX0_open 15 = .ok (.ireturn, 1) := dk_172 (dk_at dksX0_open_0 15 rfl rfl)
/-! PageGardenLaw.open(LPageGarden;[J)I -/
abbrev M_X0_open (z0 n0 : Nat) (s' : gS) : gM := (RX0, cX0_open, 3, (some FieldType.int), "open", tableOf [(0, 8, 11, 13)], 12, z0, n0, s'.2.1, s'.2.2)
abbrev W_X0_open (E : gE) (z0 n0 : Nat) (r : Int32) (s' : gS) (pc : Nat) (L : List (Nat × gV)) (st : List gV) (s : gS) : Prop := gW E (M_X0_open z0 n0 s') (gQm E (M_X0_open z0 n0 s') (.inl (some (vI r))) s') pc L st s
noncomputable def f_X0_open_11 (κ : gK) (F : Nat)   (s : gS) : Option (Int32 × gS) :=
  some ((1 : Int32), s)
set_option maxHeartbeats 4000000 in
theorem w_X0_open_11 {E : gE} {F z0 n0 : Nat} {r : Int32} {s' : gS}   : ∀   (q : Option Nat) (s : gS), f_X0_open_11 (gk E) F   s = some (r, s') → W_X0_open E z0 n0 r s' 11 [] [vR q] s := by
  intro  q s hB
  unfold f_X0_open_11 at hB
  refine gw_astore_n (L' := [(2, vR q)]) (Nat.le_of_ble_eq_true rfl) rfl dX0_open_11 ?_
  refine gw_iconst (v := (1 : Int32)) (by decide) dX0_open_12 ?_
  obtain ⟨rfl, rfl⟩ := Prod.mk.inj (Option.some.inj hB)
  exact gw_iret rfl rfl rfl dX0_open_13
noncomputable def f_X0_open_0 (κ : gK) (F : Nat)  (l0 : Option Nat) (l1 : Option Nat) (s : gS) : Option (Int32 × gS) :=
  gB1 (gck s l0 0) fun _ =>
  gBy (f_X1_open κ F l0  s) (fun Cv2 s1 =>
    if Cv2 = "java/lang/IllegalStateException" then f_X0_open_11 κ F  s1 else
    none) <| fun v2 s1 =>
  gB1 (gsJ κ s1 l1 (0 : Int32) (v2.toInt64)) fun s4 =>
  some ((0 : Int32), s4)
set_option maxHeartbeats 4000000 in
theorem w_X0_open_0 {E : gE} {F z0 n0 : Nat} {r : Int32} {s' : gS}   : ∀ (l0 : Option Nat) (l1 : Option Nat)  (s : gS), f_X0_open_0 (gk E) F  l0 l1 s = some (r, s') → W_X0_open E z0 n0 r s' 0 [(0, vR l0), (1, vR l1)] [] s := by
  intro l0 l1 s hB
  unfold f_X0_open_0 at hB
  refine gw_aload_n 1 rfl dX0_open_0 ?_
  refine gw_iconst (v := (0 : Int32)) (by decide) dX0_open_1 ?_
  refine gw_aload_n 0 rfl dX0_open_2 ?_
  obtain ⟨u0, hu3, hB⟩ := gB1_some hB
  rcases gBy_some hB with ⟨v2, s1, hv2, hB⟩ | ⟨Cv2, s1, hv2, hB⟩
  rotate_left
  · by_cases hc0 : Cv2 = "java/lang/IllegalStateException"
    · rw [if_pos hc0] at hB
      subst hc0
      exact gw_callV (y := yX1_open) (lw_V q2534 q2535 q2536 q108 q2537) hdV_X1_open gcl0 hu3 (As := []) (rest := [vI (0 : Int32), vR l1]) (m_X1_open _ _ _ _ hv2) (Nat.le_of_ble_eq_true rfl) (Nat.le_of_ble_eq_true rfl) rfl (Nat.le_of_ble_eq_true rfl) dX0_open_3 (gCont_x (gx_catch (own := "PageGardenLaw") rfl [] ⟨0, 8, 11, 13⟩ [] rfl (fun z hz => by cases hz) rfl (by decide) q2497 q2020 (tgt := 11) rfl (fun q => gw_sub [] rfl (w_X0_open_11  q _ hB))))
    · rw [if_neg hc0] at hB
      cases hB
  refine gw_callV (y := yX1_open) (lw_V q2534 q2535 q2536 q108 q2537) hdV_X1_open gcl0 hu3 (As := []) (rest := [vI (0 : Int32), vR l1]) (m_X1_open _ _ _ _ hv2) (Nat.le_of_ble_eq_true rfl) (Nat.le_of_ble_eq_true rfl) rfl (Nat.le_of_ble_eq_true rfl) dX0_open_3 (gCont_i ?_)
  refine gw_i2l dX0_open_6 ?_
  obtain ⟨s4, hs4, hB⟩ := gB1_some hB
  refine gw_lastore hs4 dX0_open_7 ?_
  refine gw_goto (tgt := 14) dX0_open_8 (by decide) ?_
  refine gw_iconst (v := (0 : Int32)) (by decide) dX0_open_14 ?_
  obtain ⟨rfl, rfl⟩ := Prod.mk.inj (Option.some.inj hB)
  exact gw_iret rfl rfl rfl dX0_open_15
noncomputable def f_X0_open (κ : gK) (F : Nat) (a1 : Option Nat) (a2 : Option Nat) (s : gS) : Option (Int32 × gS) := f_X0_open_0 κ F a1 a2 s
theorem m_X0_open {E : gE} {F : Nat} (a1 : Option Nat) (a2 : Option Nat) (s : gS) (r : Int32) (s' : gS) (h : f_X0_open (gk E) F a1 a2 s = some (r, s')) : gCT E 12 yX0_open (wsW_ yX0_open cX0_open 3 (some FieldType.int) [(0, 8, 11, 13)]) [vR a1, vR a2] s (.inl (some (vI r))) s' := by
  refine gCT_ofH (fun h => absurd h (by decide)) (by decide) (Nat.le_of_ble_eq_true rfl) ?_
  exact gw_sub [0, 1] rfl (w_X0_open_0 _ _ _ h)
def dkwX0_put_0 : List UInt8 := [45, 3, 42, 27, 28, 182, 0, 15, 133, 80, 167, 0, 11, 58, 4, 4, 172, 58, 4, 5, 172, 3, 172]
abbrev dktX0_put_0 : List UInt8 := dkwX0_put_0 ++ []
theorem dksX0_put_0 : cX0_put.data.toList.drop 0 = dktX0_put_0 := by decide +kernel
theorem dX0_put_0 : decode cX0_put 0 = .ok (.aload_n 3, 1) := dk_45 (dk_at dksX0_put_0 0 rfl rfl)
theorem dX0_put_1 : decode cX0_put 1 = .ok (.iconst 0, 1) := dk_3 (dk_at dksX0_put_0 1 rfl rfl)
theorem dX0_put_2 : decode cX0_put 2 = .ok (.aload_n 0, 1) := dk_42 (dk_at dksX0_put_0 2 rfl rfl)
theorem dX0_put_3 : decode cX0_put 3 = .ok (.iload_n 1, 1) := dk_27 (dk_at dksX0_put_0 3 rfl rfl)
theorem dX0_put_4 : decode cX0_put 4 = .ok (.iload_n 2, 1) := dk_28 (dk_at dksX0_put_0 4 rfl rfl)
theorem dX0_put_5 : decode cX0_put 5 = .ok (.invokevirtual 15, 3) := dk_182 0 15 (dk_at dksX0_put_0 5 rfl rfl)
theorem dX0_put_8 : decode cX0_put 8 = .ok (.i2l, 1) := dk_133 (dk_at dksX0_put_0 8 rfl rfl)
theorem dX0_put_9 : decode cX0_put 9 = .ok (.lastore, 1) := dk_80 (dk_at dksX0_put_0 9 rfl rfl)
theorem dX0_put_10 : decode cX0_put 10 = .ok (.goto 11, 3) := dk_167 0 11 (dk_at dksX0_put_0 10 rfl rfl)
theorem dX0_put_13 : decode cX0_put 13 = .ok (.astore 4, 2) := dk_58 4 (dk_at dksX0_put_0 13 rfl rfl)
theorem dX0_put_15 : decode cX0_put 15 = .ok (.iconst 1, 1) := dk_4 (dk_at dksX0_put_0 15 rfl rfl)
theorem dX0_put_16 : decode cX0_put 16 = .ok (.ireturn, 1) := dk_172 (dk_at dksX0_put_0 16 rfl rfl)
theorem dX0_put_17 : decode cX0_put 17 = .ok (.astore 4, 2) := dk_58 4 (dk_at dksX0_put_0 17 rfl rfl)
theorem dX0_put_19 : decode cX0_put 19 = .ok (.iconst 2, 1) := dk_5 (dk_at dksX0_put_0 19 rfl rfl)
theorem dX0_put_20 : decode cX0_put 20 = .ok (.ireturn, 1) := dk_172 (dk_at dksX0_put_0 20 rfl rfl)
theorem dX0_put_21 : decode cX0_put 21 = .ok (.iconst 0, 1) := dk_3 (dk_at dksX0_put_0 21 rfl rfl)
theorem dX0_put_22 : decode cX0_put 22 = .ok (.ireturn, 1) := dk_172 (dk_at dksX0_put_0 22 rfl rfl)
/-! PageGardenLaw.put(LPageGarden;II[J)I -/
abbrev M_X0_put (z0 n0 : Nat) (s' : gS) : gM := (RX0, cX0_put, 5, (some FieldType.int), "put", tableOf [(0, 10, 13, 19), (0, 10, 17, 13)], 15, z0, n0, s'.2.1, s'.2.2)
abbrev W_X0_put (E : gE) (z0 n0 : Nat) (r : Int32) (s' : gS) (pc : Nat) (L : List (Nat × gV)) (st : List gV) (s : gS) : Prop := gW E (M_X0_put z0 n0 s') (gQm E (M_X0_put z0 n0 s') (.inl (some (vI r))) s') pc L st s
noncomputable def f_X0_put_13 (κ : gK) (F : Nat)   (s : gS) : Option (Int32 × gS) :=
  some ((1 : Int32), s)
set_option maxHeartbeats 4000000 in
theorem w_X0_put_13 {E : gE} {F z0 n0 : Nat} {r : Int32} {s' : gS}   : ∀   (q : Option Nat) (s : gS), f_X0_put_13 (gk E) F   s = some (r, s') → W_X0_put E z0 n0 r s' 13 [] [vR q] s := by
  intro  q s hB
  unfold f_X0_put_13 at hB
  refine gw_astore (L' := [(4, vR q)]) (Nat.le_of_ble_eq_true rfl) rfl dX0_put_13 ?_
  refine gw_iconst (v := (1 : Int32)) (by decide) dX0_put_15 ?_
  obtain ⟨rfl, rfl⟩ := Prod.mk.inj (Option.some.inj hB)
  exact gw_iret rfl rfl rfl dX0_put_16
noncomputable def f_X0_put_17 (κ : gK) (F : Nat)   (s : gS) : Option (Int32 × gS) :=
  some ((2 : Int32), s)
set_option maxHeartbeats 4000000 in
theorem w_X0_put_17 {E : gE} {F z0 n0 : Nat} {r : Int32} {s' : gS}   : ∀   (q : Option Nat) (s : gS), f_X0_put_17 (gk E) F   s = some (r, s') → W_X0_put E z0 n0 r s' 17 [] [vR q] s := by
  intro  q s hB
  unfold f_X0_put_17 at hB
  refine gw_astore (L' := [(4, vR q)]) (Nat.le_of_ble_eq_true rfl) rfl dX0_put_17 ?_
  refine gw_iconst (v := (2 : Int32)) (by decide) dX0_put_19 ?_
  obtain ⟨rfl, rfl⟩ := Prod.mk.inj (Option.some.inj hB)
  exact gw_iret rfl rfl rfl dX0_put_20
noncomputable def f_X0_put_0 (κ : gK) (F : Nat)  (l0 : Option Nat) (l1 : Int32) (l2 : Int32) (l3 : Option Nat) (s : gS) : Option (Int32 × gS) :=
  gB1 (gck s l0 0) fun _ =>
  gBy (f_X1_put κ F l0 l1 l2 s) (fun Cv2 s1 =>
    if Cv2 = "java/lang/IllegalArgumentException" then f_X0_put_13 κ F  s1 else
    if Cv2 = "java/lang/IllegalStateException" then f_X0_put_17 κ F  s1 else
    none) <| fun v2 s1 =>
  gB1 (gsJ κ s1 l3 (0 : Int32) (v2.toInt64)) fun s4 =>
  some ((0 : Int32), s4)
set_option maxHeartbeats 4000000 in
theorem w_X0_put_0 {E : gE} {F z0 n0 : Nat} {r : Int32} {s' : gS}   : ∀ (l0 : Option Nat) (l1 : Int32) (l2 : Int32) (l3 : Option Nat)  (s : gS), f_X0_put_0 (gk E) F  l0 l1 l2 l3 s = some (r, s') → W_X0_put E z0 n0 r s' 0 [(0, vR l0), (1, vI l1), (2, vI l2), (3, vR l3)] [] s := by
  intro l0 l1 l2 l3 s hB
  unfold f_X0_put_0 at hB
  refine gw_aload_n 3 rfl dX0_put_0 ?_
  refine gw_iconst (v := (0 : Int32)) (by decide) dX0_put_1 ?_
  refine gw_aload_n 0 rfl dX0_put_2 ?_
  refine gw_iload_n 1 rfl dX0_put_3 ?_
  refine gw_iload_n 2 rfl dX0_put_4 ?_
  obtain ⟨u0, hu3, hB⟩ := gB1_some hB
  rcases gBy_some hB with ⟨v2, s1, hv2, hB⟩ | ⟨Cv2, s1, hv2, hB⟩
  rotate_left
  · by_cases hc0 : Cv2 = "java/lang/IllegalArgumentException"
    · rw [if_pos hc0] at hB
      subst hc0
      exact gw_callV (y := yX1_put) (lw_V q2506 q2507 q2508 q108 q2509) hdV_X1_put gcl0 hu3 (As := [vI l1, vI l2]) (rest := [vI (0 : Int32), vR l3]) (m_X1_put _ _ _ _ _ _ hv2) (Nat.le_of_ble_eq_true rfl) (Nat.le_of_ble_eq_true rfl) rfl (Nat.le_of_ble_eq_true rfl) dX0_put_5 (gCont_x (gx_catch (own := "PageGardenLaw") rfl [] ⟨0, 10, 13, 19⟩ [⟨0, 10, 17, 13⟩] rfl (fun z hz => by cases hz) rfl (by decide) q2505 q430 (tgt := 13) rfl (fun q => gw_sub [] rfl (w_X0_put_13  q _ hB))))
    · rw [if_neg hc0] at hB
      by_cases hc1 : Cv2 = "java/lang/IllegalStateException"
      · rw [if_pos hc1] at hB
        subst hc1
        exact gw_callV (y := yX1_put) (lw_V q2506 q2507 q2508 q108 q2509) hdV_X1_put gcl0 hu3 (As := [vI l1, vI l2]) (rest := [vI (0 : Int32), vR l3]) (m_X1_put _ _ _ _ _ _ hv2) (Nat.le_of_ble_eq_true rfl) (Nat.le_of_ble_eq_true rfl) rfl (Nat.le_of_ble_eq_true rfl) dX0_put_5 (gCont_x (gx_catch (own := "PageGardenLaw") rfl [⟨0, 10, 13, 19⟩] ⟨0, 10, 17, 13⟩ [] rfl (fun z hz => by
          rcases List.mem_cons.mp hz with rfl | hz
          · exact Or.inr ⟨by decide, "java/lang/IllegalArgumentException", q2505, by decide⟩
          cases hz) rfl (by decide) q2497 q2020 (tgt := 17) rfl (fun q => gw_sub [] rfl (w_X0_put_17  q _ hB))))
      · rw [if_neg hc1] at hB
        cases hB
  refine gw_callV (y := yX1_put) (lw_V q2506 q2507 q2508 q108 q2509) hdV_X1_put gcl0 hu3 (As := [vI l1, vI l2]) (rest := [vI (0 : Int32), vR l3]) (m_X1_put _ _ _ _ _ _ hv2) (Nat.le_of_ble_eq_true rfl) (Nat.le_of_ble_eq_true rfl) rfl (Nat.le_of_ble_eq_true rfl) dX0_put_5 (gCont_i ?_)
  refine gw_i2l dX0_put_8 ?_
  obtain ⟨s4, hs4, hB⟩ := gB1_some hB
  refine gw_lastore hs4 dX0_put_9 ?_
  refine gw_goto (tgt := 21) dX0_put_10 (by decide) ?_
  refine gw_iconst (v := (0 : Int32)) (by decide) dX0_put_21 ?_
  obtain ⟨rfl, rfl⟩ := Prod.mk.inj (Option.some.inj hB)
  exact gw_iret rfl rfl rfl dX0_put_22
noncomputable def f_X0_put (κ : gK) (F : Nat) (a1 : Option Nat) (a2 : Int32) (a3 : Int32) (a4 : Option Nat) (s : gS) : Option (Int32 × gS) := f_X0_put_0 κ F a1 a2 a3 a4 s
theorem m_X0_put {E : gE} {F : Nat} (a1 : Option Nat) (a2 : Int32) (a3 : Int32) (a4 : Option Nat) (s : gS) (r : Int32) (s' : gS) (h : f_X0_put (gk E) F a1 a2 a3 a4 s = some (r, s')) : gCT E 15 yX0_put (wsW_ yX0_put cX0_put 5 (some FieldType.int) [(0, 10, 13, 19), (0, 10, 17, 13)]) [vR a1, vI a2, vI a3, vR a4] s (.inl (some (vI r))) s' := by
  refine gCT_ofH (fun h => absurd h (by decide)) (by decide) (Nat.le_of_ble_eq_true rfl) ?_
  exact gw_sub [0, 1, 2, 3] rfl (w_X0_put_0 _ _ _ _ _ h)
def dkwX0_read_1 : List UInt8 := [172, 3, 172]
abbrev dktX0_read_1 : List UInt8 := dkwX0_read_1 ++ []
def dkwX0_read_0 : List UInt8 := [45, 3, 42, 27, 28, 182, 0, 45, 133, 80, 167, 0, 15, 58, 4, 4, 172, 58, 4, 5, 172, 58, 4, 6]
abbrev dktX0_read_0 : List UInt8 := dkwX0_read_0 ++ dktX0_read_1
theorem dksX0_read_0 : cX0_read.data.toList.drop 0 = dktX0_read_0 := by decide +kernel
theorem dksX0_read_1 : cX0_read.data.toList.drop 24 = dktX0_read_1 := dk_seg dksX0_read_0 24 rfl rfl
theorem dX0_read_0 : decode cX0_read 0 = .ok (.aload_n 3, 1) := dk_45 (dk_at dksX0_read_0 0 rfl rfl)
theorem dX0_read_1 : decode cX0_read 1 = .ok (.iconst 0, 1) := dk_3 (dk_at dksX0_read_0 1 rfl rfl)
theorem dX0_read_2 : decode cX0_read 2 = .ok (.aload_n 0, 1) := dk_42 (dk_at dksX0_read_0 2 rfl rfl)
theorem dX0_read_3 : decode cX0_read 3 = .ok (.iload_n 1, 1) := dk_27 (dk_at dksX0_read_0 3 rfl rfl)
theorem dX0_read_4 : decode cX0_read 4 = .ok (.iload_n 2, 1) := dk_28 (dk_at dksX0_read_0 4 rfl rfl)
theorem dX0_read_5 : decode cX0_read 5 = .ok (.invokevirtual 45, 3) := dk_182 0 45 (dk_at dksX0_read_0 5 rfl rfl)
theorem dX0_read_8 : decode cX0_read 8 = .ok (.i2l, 1) := dk_133 (dk_at dksX0_read_0 8 rfl rfl)
theorem dX0_read_9 : decode cX0_read 9 = .ok (.lastore, 1) := dk_80 (dk_at dksX0_read_0 9 rfl rfl)
theorem dX0_read_10 : decode cX0_read 10 = .ok (.goto 15, 3) := dk_167 0 15 (dk_at dksX0_read_0 10 rfl rfl)
theorem dX0_read_13 : decode cX0_read 13 = .ok (.astore 4, 2) := dk_58 4 (dk_at dksX0_read_0 13 rfl rfl)
theorem dX0_read_15 : decode cX0_read 15 = .ok (.iconst 1, 1) := dk_4 (dk_at dksX0_read_0 15 rfl rfl)
theorem dX0_read_16 : decode cX0_read 16 = .ok (.ireturn, 1) := dk_172 (dk_at dksX0_read_0 16 rfl rfl)
theorem dX0_read_17 : decode cX0_read 17 = .ok (.astore 4, 2) := dk_58 4 (dk_at dksX0_read_0 17 rfl rfl)
theorem dX0_read_19 : decode cX0_read 19 = .ok (.iconst 2, 1) := dk_5 (dk_at dksX0_read_0 19 rfl rfl)
theorem dX0_read_20 : decode cX0_read 20 = .ok (.ireturn, 1) := dk_172 (dk_at dksX0_read_0 20 rfl rfl)
theorem dX0_read_21 : decode cX0_read 21 = .ok (.astore 4, 2) := dk_58 4 (dk_at dksX0_read_0 21 rfl rfl)
theorem dX0_read_23 : decode cX0_read 23 = .ok (.iconst 3, 1) := dk_6 (dk_at dksX0_read_0 23 rfl rfl)
theorem dX0_read_24 : decode cX0_read 24 = .ok (.ireturn, 1) := dk_172 (dk_at dksX0_read_1 0 rfl rfl)
theorem dX0_read_25 : decode cX0_read 25 = .ok (.iconst 0, 1) := dk_3 (dk_at dksX0_read_1 1 rfl rfl)
theorem dX0_read_26 : decode cX0_read 26 = .ok (.ireturn, 1) := dk_172 (dk_at dksX0_read_1 2 rfl rfl)
/-! PageGardenLaw.read(LPageGarden;II[J)I -/
abbrev M_X0_read (z0 n0 : Nat) (s' : gS) : gM := (RX0, cX0_read, 5, (some FieldType.int), "read", tableOf [(0, 10, 13, 37), (0, 10, 17, 19), (0, 10, 21, 13)], 12, z0, n0, s'.2.1, s'.2.2)
abbrev W_X0_read (E : gE) (z0 n0 : Nat) (r : Int32) (s' : gS) (pc : Nat) (L : List (Nat × gV)) (st : List gV) (s : gS) : Prop := gW E (M_X0_read z0 n0 s') (gQm E (M_X0_read z0 n0 s') (.inl (some (vI r))) s') pc L st s
noncomputable def f_X0_read_13 (κ : gK) (F : Nat)   (s : gS) : Option (Int32 × gS) :=
  some ((1 : Int32), s)
set_option maxHeartbeats 4000000 in
theorem w_X0_read_13 {E : gE} {F z0 n0 : Nat} {r : Int32} {s' : gS}   : ∀   (q : Option Nat) (s : gS), f_X0_read_13 (gk E) F   s = some (r, s') → W_X0_read E z0 n0 r s' 13 [] [vR q] s := by
  intro  q s hB
  unfold f_X0_read_13 at hB
  refine gw_astore (L' := [(4, vR q)]) (Nat.le_of_ble_eq_true rfl) rfl dX0_read_13 ?_
  refine gw_iconst (v := (1 : Int32)) (by decide) dX0_read_15 ?_
  obtain ⟨rfl, rfl⟩ := Prod.mk.inj (Option.some.inj hB)
  exact gw_iret rfl rfl rfl dX0_read_16
noncomputable def f_X0_read_17 (κ : gK) (F : Nat)   (s : gS) : Option (Int32 × gS) :=
  some ((2 : Int32), s)
set_option maxHeartbeats 4000000 in
theorem w_X0_read_17 {E : gE} {F z0 n0 : Nat} {r : Int32} {s' : gS}   : ∀   (q : Option Nat) (s : gS), f_X0_read_17 (gk E) F   s = some (r, s') → W_X0_read E z0 n0 r s' 17 [] [vR q] s := by
  intro  q s hB
  unfold f_X0_read_17 at hB
  refine gw_astore (L' := [(4, vR q)]) (Nat.le_of_ble_eq_true rfl) rfl dX0_read_17 ?_
  refine gw_iconst (v := (2 : Int32)) (by decide) dX0_read_19 ?_
  obtain ⟨rfl, rfl⟩ := Prod.mk.inj (Option.some.inj hB)
  exact gw_iret rfl rfl rfl dX0_read_20
noncomputable def f_X0_read_21 (κ : gK) (F : Nat)   (s : gS) : Option (Int32 × gS) :=
  some ((3 : Int32), s)
set_option maxHeartbeats 4000000 in
theorem w_X0_read_21 {E : gE} {F z0 n0 : Nat} {r : Int32} {s' : gS}   : ∀   (q : Option Nat) (s : gS), f_X0_read_21 (gk E) F   s = some (r, s') → W_X0_read E z0 n0 r s' 21 [] [vR q] s := by
  intro  q s hB
  unfold f_X0_read_21 at hB
  refine gw_astore (L' := [(4, vR q)]) (Nat.le_of_ble_eq_true rfl) rfl dX0_read_21 ?_
  refine gw_iconst (v := (3 : Int32)) (by decide) dX0_read_23 ?_
  obtain ⟨rfl, rfl⟩ := Prod.mk.inj (Option.some.inj hB)
  exact gw_iret rfl rfl rfl dX0_read_24
noncomputable def f_X0_read_0 (κ : gK) (F : Nat)  (l0 : Option Nat) (l1 : Int32) (l2 : Int32) (l3 : Option Nat) (s : gS) : Option (Int32 × gS) :=
  gB1 (gck s l0 0) fun _ =>
  gBy (f_X1_read κ F l0 l1 l2 s) (fun Cv2 s1 =>
    if Cv2 = "java/lang/IndexOutOfBoundsException" then f_X0_read_13 κ F  s1 else
    if Cv2 = "java/lang/IllegalArgumentException" then f_X0_read_17 κ F  s1 else
    if Cv2 = "java/lang/IllegalStateException" then f_X0_read_21 κ F  s1 else
    none) <| fun v2 s1 =>
  gB1 (gsJ κ s1 l3 (0 : Int32) (v2.toInt64)) fun s4 =>
  some ((0 : Int32), s4)
set_option maxHeartbeats 4000000 in
theorem w_X0_read_0 {E : gE} {F z0 n0 : Nat} {r : Int32} {s' : gS}   : ∀ (l0 : Option Nat) (l1 : Int32) (l2 : Int32) (l3 : Option Nat)  (s : gS), f_X0_read_0 (gk E) F  l0 l1 l2 l3 s = some (r, s') → W_X0_read E z0 n0 r s' 0 [(0, vR l0), (1, vI l1), (2, vI l2), (3, vR l3)] [] s := by
  intro l0 l1 l2 l3 s hB
  unfold f_X0_read_0 at hB
  refine gw_aload_n 3 rfl dX0_read_0 ?_
  refine gw_iconst (v := (0 : Int32)) (by decide) dX0_read_1 ?_
  refine gw_aload_n 0 rfl dX0_read_2 ?_
  refine gw_iload_n 1 rfl dX0_read_3 ?_
  refine gw_iload_n 2 rfl dX0_read_4 ?_
  obtain ⟨u0, hu3, hB⟩ := gB1_some hB
  rcases gBy_some hB with ⟨v2, s1, hv2, hB⟩ | ⟨Cv2, s1, hv2, hB⟩
  rotate_left
  · by_cases hc0 : Cv2 = "java/lang/IndexOutOfBoundsException"
    · rw [if_pos hc0] at hB
      subst hc0
      exact gw_callV (y := yX1_read) (lw_V q2568 q2569 q2570 q108 q2571) hdV_X1_read gcl0 hu3 (As := [vI l1, vI l2]) (rest := [vI (0 : Int32), vR l3]) (m_X1_read _ _ _ _ _ _ hv2) (Nat.le_of_ble_eq_true rfl) (Nat.le_of_ble_eq_true rfl) rfl (Nat.le_of_ble_eq_true rfl) dX0_read_5 (gCont_x (gx_catch (own := "PageGardenLaw") rfl [] ⟨0, 10, 13, 37⟩ [⟨0, 10, 17, 19⟩, ⟨0, 10, 21, 13⟩] rfl (fun z hz => by cases hz) rfl (by decide) q2541 q2286 (tgt := 13) rfl (fun q => gw_sub [] rfl (w_X0_read_13  q _ hB))))
    · rw [if_neg hc0] at hB
      by_cases hc1 : Cv2 = "java/lang/IllegalArgumentException"
      · rw [if_pos hc1] at hB
        subst hc1
        exact gw_callV (y := yX1_read) (lw_V q2568 q2569 q2570 q108 q2571) hdV_X1_read gcl0 hu3 (As := [vI l1, vI l2]) (rest := [vI (0 : Int32), vR l3]) (m_X1_read _ _ _ _ _ _ hv2) (Nat.le_of_ble_eq_true rfl) (Nat.le_of_ble_eq_true rfl) rfl (Nat.le_of_ble_eq_true rfl) dX0_read_5 (gCont_x (gx_catch (own := "PageGardenLaw") rfl [⟨0, 10, 13, 37⟩] ⟨0, 10, 17, 19⟩ [⟨0, 10, 21, 13⟩] rfl (fun z hz => by
          rcases List.mem_cons.mp hz with rfl | hz
          · exact Or.inr ⟨by decide, "java/lang/IndexOutOfBoundsException", q2541, by decide⟩
          cases hz) rfl (by decide) q2505 q430 (tgt := 17) rfl (fun q => gw_sub [] rfl (w_X0_read_17  q _ hB))))
      · rw [if_neg hc1] at hB
        by_cases hc2 : Cv2 = "java/lang/IllegalStateException"
        · rw [if_pos hc2] at hB
          subst hc2
          exact gw_callV (y := yX1_read) (lw_V q2568 q2569 q2570 q108 q2571) hdV_X1_read gcl0 hu3 (As := [vI l1, vI l2]) (rest := [vI (0 : Int32), vR l3]) (m_X1_read _ _ _ _ _ _ hv2) (Nat.le_of_ble_eq_true rfl) (Nat.le_of_ble_eq_true rfl) rfl (Nat.le_of_ble_eq_true rfl) dX0_read_5 (gCont_x (gx_catch (own := "PageGardenLaw") rfl [⟨0, 10, 13, 37⟩, ⟨0, 10, 17, 19⟩] ⟨0, 10, 21, 13⟩ [] rfl (fun z hz => by
            rcases List.mem_cons.mp hz with rfl | hz
            · exact Or.inr ⟨by decide, "java/lang/IndexOutOfBoundsException", q2541, by decide⟩
            rcases List.mem_cons.mp hz with rfl | hz
            · exact Or.inr ⟨by decide, "java/lang/IllegalArgumentException", q2505, by decide⟩
            cases hz) rfl (by decide) q2497 q2020 (tgt := 21) rfl (fun q => gw_sub [] rfl (w_X0_read_21  q _ hB))))
        · rw [if_neg hc2] at hB
          cases hB
  refine gw_callV (y := yX1_read) (lw_V q2568 q2569 q2570 q108 q2571) hdV_X1_read gcl0 hu3 (As := [vI l1, vI l2]) (rest := [vI (0 : Int32), vR l3]) (m_X1_read _ _ _ _ _ _ hv2) (Nat.le_of_ble_eq_true rfl) (Nat.le_of_ble_eq_true rfl) rfl (Nat.le_of_ble_eq_true rfl) dX0_read_5 (gCont_i ?_)
  refine gw_i2l dX0_read_8 ?_
  obtain ⟨s4, hs4, hB⟩ := gB1_some hB
  refine gw_lastore hs4 dX0_read_9 ?_
  refine gw_goto (tgt := 25) dX0_read_10 (by decide) ?_
  refine gw_iconst (v := (0 : Int32)) (by decide) dX0_read_25 ?_
  obtain ⟨rfl, rfl⟩ := Prod.mk.inj (Option.some.inj hB)
  exact gw_iret rfl rfl rfl dX0_read_26
noncomputable def f_X0_read (κ : gK) (F : Nat) (a1 : Option Nat) (a2 : Int32) (a3 : Int32) (a4 : Option Nat) (s : gS) : Option (Int32 × gS) := f_X0_read_0 κ F a1 a2 a3 a4 s
theorem m_X0_read {E : gE} {F : Nat} (a1 : Option Nat) (a2 : Int32) (a3 : Int32) (a4 : Option Nat) (s : gS) (r : Int32) (s' : gS) (h : f_X0_read (gk E) F a1 a2 a3 a4 s = some (r, s')) : gCT E 12 yX0_read (wsW_ yX0_read cX0_read 5 (some FieldType.int) [(0, 10, 13, 37), (0, 10, 17, 19), (0, 10, 21, 13)]) [vR a1, vI a2, vI a3, vR a4] s (.inl (some (vI r))) s' := by
  refine gCT_ofH (fun h => absurd h (by decide)) (by decide) (Nat.le_of_ble_eq_true rfl) ?_
  exact gw_sub [0, 1, 2, 3] rfl (w_X0_read_0 _ _ _ _ _ h)
