set_option maxRecDepth 100000
def dkwX6_readCommand_4 : List UInt8 := [61, 42, 89, 180, 0, 220, 28, 153, 0, 7, 4, 167, 0, 4, 3, 96, 181, 0, 220, 28, 172]
abbrev dktX6_readCommand_4 : List UInt8 := dkwX6_readCommand_4 ++ []
def dkwX6_readCommand_3 : List UInt8 := [132, 2, 1, 167, 255, 238, 42, 182, 0, 251, 42, 182, 0, 223, 16, 59, 160, 0, 7, 4, 167, 0, 4, 3]
abbrev dktX6_readCommand_3 : List UInt8 := dkwX6_readCommand_3 ++ dktX6_readCommand_4
def dkwX6_readCommand_2 : List UInt8 := [4, 167, 0, 4, 3, 60, 3, 61, 28, 27, 162, 0, 19, 42, 28, 182, 1, 2, 154, 0, 5, 3, 172]
abbrev dktX6_readCommand_2 : List UInt8 := dkwX6_readCommand_2 ++ dktX6_readCommand_3
def dkwX6_readCommand_1 : List UInt8 := [180, 0, 248, 6, 159, 0, 20, 42, 180, 0, 248, 7, 159, 0, 12, 42, 180, 0, 248, 16, 7, 160, 0, 7]
abbrev dktX6_readCommand_1 : List UInt8 := dkwX6_readCommand_1 ++ dktX6_readCommand_2
def dkwX6_readCommand_0 : List UInt8 := [42, 182, 0, 254, 154, 0, 5, 3, 172, 42, 180, 0, 248, 5, 160, 0, 7, 5, 167, 0, 33, 42]
abbrev dktX6_readCommand_0 : List UInt8 := dkwX6_readCommand_0 ++ dktX6_readCommand_1
theorem dksX6_readCommand_0 : cX6_readCommand.data.toList.drop 0 = dktX6_readCommand_0 := by decide +kernel
theorem dksX6_readCommand_1 : cX6_readCommand.data.toList.drop 22 = dktX6_readCommand_1 := dk_seg dksX6_readCommand_0 22 rfl rfl
theorem dksX6_readCommand_2 : cX6_readCommand.data.toList.drop 46 = dktX6_readCommand_2 := dk_seg dksX6_readCommand_1 24 rfl rfl
theorem dksX6_readCommand_3 : cX6_readCommand.data.toList.drop 69 = dktX6_readCommand_3 := dk_seg dksX6_readCommand_2 23 rfl rfl
theorem dksX6_readCommand_4 : cX6_readCommand.data.toList.drop 93 = dktX6_readCommand_4 := dk_seg dksX6_readCommand_3 24 rfl rfl
theorem dX6_readCommand_0 : decode cX6_readCommand 0 = .ok (.aload_n 0, 1) := dk_42 (dk_at dksX6_readCommand_0 0 rfl rfl)
theorem dX6_readCommand_1 : decode cX6_readCommand 1 = .ok (.invokevirtual 254, 3) := dk_182 0 254 (dk_at dksX6_readCommand_0 1 rfl rfl)
theorem dX6_readCommand_4 : decode cX6_readCommand 4 = .ok (.ifCond .ne 5, 3) := dk_154 0 5 (dk_at dksX6_readCommand_0 4 rfl rfl)
theorem dX6_readCommand_7 : decode cX6_readCommand 7 = .ok (.iconst 0, 1) := dk_3 (dk_at dksX6_readCommand_0 7 rfl rfl)
theorem dX6_readCommand_8 : decode cX6_readCommand 8 = .ok (.ireturn, 1) := dk_172 (dk_at dksX6_readCommand_0 8 rfl rfl)
theorem dX6_readCommand_9 : decode cX6_readCommand 9 = .ok (.aload_n 0, 1) := dk_42 (dk_at dksX6_readCommand_0 9 rfl rfl)
theorem dX6_readCommand_10 : decode cX6_readCommand 10 = .ok (.getfield 248, 3) := dk_180 0 248 (dk_at dksX6_readCommand_0 10 rfl rfl)
theorem dX6_readCommand_13 : decode cX6_readCommand 13 = .ok (.iconst 2, 1) := dk_5 (dk_at dksX6_readCommand_0 13 rfl rfl)
theorem dX6_readCommand_14 : decode cX6_readCommand 14 = .ok (.if_icmp .ne 7, 3) := dk_160 0 7 (dk_at dksX6_readCommand_0 14 rfl rfl)
theorem dX6_readCommand_17 : decode cX6_readCommand 17 = .ok (.iconst 2, 1) := dk_5 (dk_at dksX6_readCommand_0 17 rfl rfl)
theorem dX6_readCommand_18 : decode cX6_readCommand 18 = .ok (.goto 33, 3) := dk_167 0 33 (dk_at dksX6_readCommand_0 18 rfl rfl)
theorem dX6_readCommand_21 : decode cX6_readCommand 21 = .ok (.aload_n 0, 1) := dk_42 (dk_at dksX6_readCommand_0 21 rfl rfl)
theorem dX6_readCommand_22 : decode cX6_readCommand 22 = .ok (.getfield 248, 3) := dk_180 0 248 (dk_at dksX6_readCommand_1 0 rfl rfl)
theorem dX6_readCommand_25 : decode cX6_readCommand 25 = .ok (.iconst 3, 1) := dk_6 (dk_at dksX6_readCommand_1 3 rfl rfl)
theorem dX6_readCommand_26 : decode cX6_readCommand 26 = .ok (.if_icmp .eq 20, 3) := dk_159 0 20 (dk_at dksX6_readCommand_1 4 rfl rfl)
theorem dX6_readCommand_29 : decode cX6_readCommand 29 = .ok (.aload_n 0, 1) := dk_42 (dk_at dksX6_readCommand_1 7 rfl rfl)
theorem dX6_readCommand_30 : decode cX6_readCommand 30 = .ok (.getfield 248, 3) := dk_180 0 248 (dk_at dksX6_readCommand_1 8 rfl rfl)
theorem dX6_readCommand_33 : decode cX6_readCommand 33 = .ok (.iconst 4, 1) := dk_7 (dk_at dksX6_readCommand_1 11 rfl rfl)
theorem dX6_readCommand_34 : decode cX6_readCommand 34 = .ok (.if_icmp .eq 12, 3) := dk_159 0 12 (dk_at dksX6_readCommand_1 12 rfl rfl)
theorem dX6_readCommand_37 : decode cX6_readCommand 37 = .ok (.aload_n 0, 1) := dk_42 (dk_at dksX6_readCommand_1 15 rfl rfl)
theorem dX6_readCommand_38 : decode cX6_readCommand 38 = .ok (.getfield 248, 3) := dk_180 0 248 (dk_at dksX6_readCommand_1 16 rfl rfl)
theorem dX6_readCommand_41 : decode cX6_readCommand 41 = .ok (.bipush 7, 2) := dk_16 7 (dk_at dksX6_readCommand_1 19 rfl rfl)
theorem dX6_readCommand_43 : decode cX6_readCommand 43 = .ok (.if_icmp .ne 7, 3) := dk_160 0 7 (dk_at dksX6_readCommand_1 21 rfl rfl)
theorem dX6_readCommand_46 : decode cX6_readCommand 46 = .ok (.iconst 1, 1) := dk_4 (dk_at dksX6_readCommand_2 0 rfl rfl)
theorem dX6_readCommand_47 : decode cX6_readCommand 47 = .ok (.goto 4, 3) := dk_167 0 4 (dk_at dksX6_readCommand_2 1 rfl rfl)
theorem dX6_readCommand_50 : decode cX6_readCommand 50 = .ok (.iconst 0, 1) := dk_3 (dk_at dksX6_readCommand_2 4 rfl rfl)
theorem dX6_readCommand_51 : decode cX6_readCommand 51 = .ok (.istore_n 1, 1) := dk_60 (dk_at dksX6_readCommand_2 5 rfl rfl)
theorem dX6_readCommand_52 : decode cX6_readCommand 52 = .ok (.iconst 0, 1) := dk_3 (dk_at dksX6_readCommand_2 6 rfl rfl)
theorem dX6_readCommand_53 : decode cX6_readCommand 53 = .ok (.istore_n 2, 1) := dk_61 (dk_at dksX6_readCommand_2 7 rfl rfl)
theorem dX6_readCommand_54 : decode cX6_readCommand 54 = .ok (.iload_n 2, 1) := dk_28 (dk_at dksX6_readCommand_2 8 rfl rfl)
theorem dX6_readCommand_55 : decode cX6_readCommand 55 = .ok (.iload_n 1, 1) := dk_27 (dk_at dksX6_readCommand_2 9 rfl rfl)
theorem dX6_readCommand_56 : decode cX6_readCommand 56 = .ok (.if_icmp .ge 19, 3) := dk_162 0 19 (dk_at dksX6_readCommand_2 10 rfl rfl)
theorem dX6_readCommand_59 : decode cX6_readCommand 59 = .ok (.aload_n 0, 1) := dk_42 (dk_at dksX6_readCommand_2 13 rfl rfl)
theorem dX6_readCommand_60 : decode cX6_readCommand 60 = .ok (.iload_n 2, 1) := dk_28 (dk_at dksX6_readCommand_2 14 rfl rfl)
theorem dX6_readCommand_61 : decode cX6_readCommand 61 = .ok (.invokevirtual 258, 3) := dk_182 1 2 (dk_at dksX6_readCommand_2 15 rfl rfl)
theorem dX6_readCommand_64 : decode cX6_readCommand 64 = .ok (.ifCond .ne 5, 3) := dk_154 0 5 (dk_at dksX6_readCommand_2 18 rfl rfl)
theorem dX6_readCommand_67 : decode cX6_readCommand 67 = .ok (.iconst 0, 1) := dk_3 (dk_at dksX6_readCommand_2 21 rfl rfl)
theorem dX6_readCommand_68 : decode cX6_readCommand 68 = .ok (.ireturn, 1) := dk_172 (dk_at dksX6_readCommand_2 22 rfl rfl)
theorem dX6_readCommand_69 : decode cX6_readCommand 69 = .ok (.iinc 2 1, 3) := dk_132 2 1 (dk_at dksX6_readCommand_3 0 rfl rfl)
theorem dX6_readCommand_72 : decode cX6_readCommand 72 = .ok (.goto (-18), 3) := dk_167 255 238 (dk_at dksX6_readCommand_3 3 rfl rfl)
theorem dX6_readCommand_75 : decode cX6_readCommand 75 = .ok (.aload_n 0, 1) := dk_42 (dk_at dksX6_readCommand_3 6 rfl rfl)
theorem dX6_readCommand_76 : decode cX6_readCommand 76 = .ok (.invokevirtual 251, 3) := dk_182 0 251 (dk_at dksX6_readCommand_3 7 rfl rfl)
theorem dX6_readCommand_79 : decode cX6_readCommand 79 = .ok (.aload_n 0, 1) := dk_42 (dk_at dksX6_readCommand_3 10 rfl rfl)
theorem dX6_readCommand_80 : decode cX6_readCommand 80 = .ok (.invokevirtual 223, 3) := dk_182 0 223 (dk_at dksX6_readCommand_3 11 rfl rfl)
theorem dX6_readCommand_83 : decode cX6_readCommand 83 = .ok (.bipush 59, 2) := dk_16 59 (dk_at dksX6_readCommand_3 14 rfl rfl)
theorem dX6_readCommand_85 : decode cX6_readCommand 85 = .ok (.if_icmp .ne 7, 3) := dk_160 0 7 (dk_at dksX6_readCommand_3 16 rfl rfl)
theorem dX6_readCommand_88 : decode cX6_readCommand 88 = .ok (.iconst 1, 1) := dk_4 (dk_at dksX6_readCommand_3 19 rfl rfl)
theorem dX6_readCommand_89 : decode cX6_readCommand 89 = .ok (.goto 4, 3) := dk_167 0 4 (dk_at dksX6_readCommand_3 20 rfl rfl)
theorem dX6_readCommand_92 : decode cX6_readCommand 92 = .ok (.iconst 0, 1) := dk_3 (dk_at dksX6_readCommand_3 23 rfl rfl)
theorem dX6_readCommand_93 : decode cX6_readCommand 93 = .ok (.istore_n 2, 1) := dk_61 (dk_at dksX6_readCommand_4 0 rfl rfl)
theorem dX6_readCommand_94 : decode cX6_readCommand 94 = .ok (.aload_n 0, 1) := dk_42 (dk_at dksX6_readCommand_4 1 rfl rfl)
theorem dX6_readCommand_95 : decode cX6_readCommand 95 = .ok (.dup, 1) := dk_89 (dk_at dksX6_readCommand_4 2 rfl rfl)
theorem dX6_readCommand_96 : decode cX6_readCommand 96 = .ok (.getfield 220, 3) := dk_180 0 220 (dk_at dksX6_readCommand_4 3 rfl rfl)
theorem dX6_readCommand_99 : decode cX6_readCommand 99 = .ok (.iload_n 2, 1) := dk_28 (dk_at dksX6_readCommand_4 6 rfl rfl)
theorem dX6_readCommand_100 : decode cX6_readCommand 100 = .ok (.ifCond .eq 7, 3) := dk_153 0 7 (dk_at dksX6_readCommand_4 7 rfl rfl)
theorem dX6_readCommand_103 : decode cX6_readCommand 103 = .ok (.iconst 1, 1) := dk_4 (dk_at dksX6_readCommand_4 10 rfl rfl)
theorem dX6_readCommand_104 : decode cX6_readCommand 104 = .ok (.goto 4, 3) := dk_167 0 4 (dk_at dksX6_readCommand_4 11 rfl rfl)
theorem dX6_readCommand_107 : decode cX6_readCommand 107 = .ok (.iconst 0, 1) := dk_3 (dk_at dksX6_readCommand_4 14 rfl rfl)
theorem dX6_readCommand_108 : decode cX6_readCommand 108 = .ok (.iadd, 1) := dk_96 (dk_at dksX6_readCommand_4 15 rfl rfl)
theorem dX6_readCommand_109 : decode cX6_readCommand 109 = .ok (.putfield 220, 3) := dk_181 0 220 (dk_at dksX6_readCommand_4 16 rfl rfl)
theorem dX6_readCommand_112 : decode cX6_readCommand 112 = .ok (.iload_n 2, 1) := dk_28 (dk_at dksX6_readCommand_4 19 rfl rfl)
theorem dX6_readCommand_113 : decode cX6_readCommand 113 = .ok (.ireturn, 1) := dk_172 (dk_at dksX6_readCommand_4 20 rfl rfl)
/-! PageGardenModel.readCommand()Z -/
abbrev M_X6_readCommand (z0 n0 : Nat) (s' : gS) : gM := (RX6, cX6_readCommand, 3, (some FieldType.boolean), "readCommand", [], 4, z0, n0, s'.2.1, s'.2.2)
abbrev W_X6_readCommand (E : gE) (z0 n0 : Nat) (r : Int32) (s' : gS) (pc : Nat) (L : List (Nat × gV)) (st : List gV) (s : gS) : Prop := gW E (M_X6_readCommand z0 n0 s') (gQm E (M_X6_readCommand z0 n0 s') (.inl (some (vI r))) s') pc L st s
noncomputable def f_X6_readCommand_108 (κ : gK) (F : Nat)  (l2 : Int32) (t0 : Option Nat) (t1 : Int32) (t2 : Int32) (s : gS) : Option (Int32 × gS) :=
  gB1 (gpf κ s t0 9 9 (.int (t1 + t2))) fun s1 =>
  gB1 (gok .boolean l2) fun _ => some (l2, s1)
set_option maxHeartbeats 4000000 in
theorem w_X6_readCommand_108 {E : gE} {F z0 n0 : Nat} {r : Int32} {s' : gS}   : ∀ (l2 : Int32) (t0 : Option Nat) (t1 : Int32) (t2 : Int32) (s : gS), f_X6_readCommand_108 (gk E) F  l2 t0 t1 t2 s = some (r, s') → W_X6_readCommand E z0 n0 r s' 108 [(2, vI l2)] [vI t2, vI t1, vR t0] s := by
  intro l2 t0 t1 t2 s hB
  unfold f_X6_readCommand_108 at hB
  refine gw_iadd dX6_readCommand_108 ?_
  obtain ⟨s1, hs1, hB⟩ := gB1_some hB
  refine gw_putf (C := RX6) (T := TX6) (N := 13) (k := 9) tyX6 tyX6_ok nmX6 gcl9 (by decide) in_X6 q2703 rfl (tyX6_ok 9 (by decide)) (gNF_i _) hs1 dX6_readCommand_109 ?_
  refine gw_iload_n 0 rfl dX6_readCommand_112 ?_
  obtain ⟨u, hu, hB⟩ := gB1_some hB
  obtain ⟨rfl, rfl⟩ := Prod.mk.inj (Option.some.inj hB)
  exact gw_zret rfl hu rfl rfl dX6_readCommand_113
noncomputable def f_X6_readCommand_93 (κ : gK) (F : Nat)  (l0 : Option Nat) (t0 : Int32) (s : gS) : Option (Int32 × gS) :=
  gB1 (gfI s l0 9 9) fun v1 =>
  if t0 = 0 then
    f_X6_readCommand_108 κ F  t0 l0 v1 (0 : Int32) s
  else
    f_X6_readCommand_108 κ F  t0 l0 v1 (1 : Int32) s
set_option maxHeartbeats 4000000 in
theorem w_X6_readCommand_93 {E : gE} {F z0 n0 : Nat} {r : Int32} {s' : gS}   : ∀ (l0 : Option Nat) (t0 : Int32) (s : gS), f_X6_readCommand_93 (gk E) F  l0 t0 s = some (r, s') → W_X6_readCommand E z0 n0 r s' 93 [(0, vR l0)] [vI t0] s := by
  intro l0 t0 s hB
  unfold f_X6_readCommand_93 at hB
  refine gw_istore_n (L' := [(2, vI t0), (0, vR l0)]) (Nat.le_of_ble_eq_true rfl) rfl dX6_readCommand_93 ?_
  refine gw_aload_n 1 rfl dX6_readCommand_94 ?_
  refine gw_dup rfl dX6_readCommand_95 ?_
  obtain ⟨v1, hv1, hB⟩ := gB1_some hB
  refine gw_getf (C := RX6) (T := TX6) (N := 13) (k := 9) gcl9 (by decide) in_X6 q2703 (gfI_spec hv1) dX6_readCommand_96 ?_
  refine gw_iload_n 0 rfl dX6_readCommand_99 ?_
  refine gw_if_eq (tgt := 107) dX6_readCommand_100 (by decide) (fun hcnd => ?_) (fun hcnd => ?_)
  · rw [if_pos hcnd] at hB
    refine gw_iconst (v := (0 : Int32)) (by decide) dX6_readCommand_107 ?_
    exact gw_sub [0] rfl (w_X6_readCommand_108  _ _ _ _ _ hB)
  · rw [if_neg hcnd] at hB
    refine gw_iconst (v := (1 : Int32)) (by decide) dX6_readCommand_103 ?_
    refine gw_goto (tgt := 108) dX6_readCommand_104 (by decide) ?_
    exact gw_sub [0] rfl (w_X6_readCommand_108  _ _ _ _ _ hB)
noncomputable def f_X6_readCommand_54b (κ : gK) (F : Nat) (k54 : Option Nat → Int32 → Int32 → gS → Option (Int32 × gS)) (l0 : Option Nat) (l1 : Int32) (l2 : Int32) (s : gS) : Option (Int32 × gS) :=
  if l1 ≤ l2 then
    gB1 (gck s l0 9) fun _ =>
    gB2 (f_X6_spaces κ F l0  s) fun v2 s1 =>
    gB1 (gck s1 l0 9) fun _ =>
    gB2 (f_X6_here κ F l0  s1) fun v5 s4 =>
    if v5 = (59 : Int32) then
      f_X6_readCommand_93 κ F  l0 (1 : Int32) s4
    else
      f_X6_readCommand_93 κ F  l0 (0 : Int32) s4
  else
    gB1 (gck s l0 9) fun _ =>
    gB2 (f_X6_readNumber κ F l0 l2 s) fun v8 s7 =>
    if v8 = 0 then
      gB1 (gok .boolean (0 : Int32)) fun _ => some ((0 : Int32), s7)
    else
      k54 l0 l1 (l2 + (1 : Int32)) s7
noncomputable def f_X6_readCommand_54 (κ : gK) (F : Nat)  : Nat → Option Nat → Int32 → Int32 → gS → Option (Int32 × gS)
  | 0 => fun _ _ _ _ => none
  | n + 1 => f_X6_readCommand_54b κ F  (f_X6_readCommand_54 κ F  n)
set_option maxHeartbeats 4000000 in
theorem w_X6_readCommand_54b {E : gE} {F z0 n0 : Nat} {r : Int32} {s' : gS} {k54 : Option Nat → Int32 → Int32 → gS → Option (Int32 × gS)} (hk54 : ∀ (l0 : Option Nat) (l1 : Int32) (l2 : Int32) (s : gS), k54 l0 l1 l2 s = some (r, s') → W_X6_readCommand E z0 n0 r s' 54 [(0, vR l0), (1, vI l1), (2, vI l2)] [] s) : ∀ (l0 : Option Nat) (l1 : Int32) (l2 : Int32)  (s : gS), f_X6_readCommand_54b (gk E) F k54 l0 l1 l2 s = some (r, s') → W_X6_readCommand E z0 n0 r s' 54 [(0, vR l0), (1, vI l1), (2, vI l2)] [] s := by
  intro l0 l1 l2 s hB
  unfold f_X6_readCommand_54b at hB
  refine gw_iload_n 2 rfl dX6_readCommand_54 ?_
  refine gw_iload_n 1 rfl dX6_readCommand_55 ?_
  refine gw_icmp_ge (tgt := 75) dX6_readCommand_56 (by decide) (fun hcnd => ?_) (fun hcnd => ?_)
  · rw [if_pos hcnd] at hB
    refine gw_aload_n 0 rfl dX6_readCommand_75 ?_
    obtain ⟨u0, hu3, hB⟩ := gB1_some hB
    obtain ⟨v2, s1, hv2, hB⟩ := gB2_some hB
    refine gw_callV (y := yX6_spaces) (lw_V q3050 q3052 qs99 q143 q3053) hdV_X6_spaces gcl9 hu3 (As := []) (rest := []) (m_X6_spaces _ _ _ _ hv2) (Nat.le_of_ble_eq_true rfl) (Nat.le_of_ble_eq_true rfl) rfl (Nat.le_of_ble_eq_true rfl) dX6_readCommand_76 (gCont_v ?_)
    refine gw_aload_n 0 rfl dX6_readCommand_79 ?_
    obtain ⟨u0, hu6, hB⟩ := gB1_some hB
    obtain ⟨v5, s4, hv5, hB⟩ := gB2_some hB
    refine gw_callV (y := yX6_here) (lw_V q3054 q3056 qs100 q143 q3057) hdV_X6_here gcl9 hu6 (As := []) (rest := []) (m_X6_here _ _ _ _ hv5) (Nat.le_of_ble_eq_true rfl) (Nat.le_of_ble_eq_true rfl) rfl (Nat.le_of_ble_eq_true rfl) dX6_readCommand_80 (gCont_i ?_)
    refine gw_bipush (v := (59 : Int32)) (by decide) dX6_readCommand_83 ?_
    refine gw_icmp_ne (tgt := 92) dX6_readCommand_85 (by decide) (fun hcnd => ?_) (fun hcnd => ?_)
    · rw [if_neg hcnd] at hB
      refine gw_iconst (v := (0 : Int32)) (by decide) dX6_readCommand_92 ?_
      exact gw_sub [0] rfl (w_X6_readCommand_93  _ _ _ hB)
    · rw [if_pos hcnd] at hB
      refine gw_iconst (v := (1 : Int32)) (by decide) dX6_readCommand_88 ?_
      refine gw_goto (tgt := 93) dX6_readCommand_89 (by decide) ?_
      exact gw_sub [0] rfl (w_X6_readCommand_93  _ _ _ hB)
  · rw [if_neg hcnd] at hB
    refine gw_aload_n 0 rfl dX6_readCommand_59 ?_
    refine gw_iload_n 2 rfl dX6_readCommand_60 ?_
    obtain ⟨u0, hu9, hB⟩ := gB1_some hB
    obtain ⟨v8, s7, hv8, hB⟩ := gB2_some hB
    refine gw_callV (y := yX6_readNumber) (lw_V q3078 q3080 qs103 q143 q3081) hdV_X6_readNumber gcl9 hu9 (As := [vI l2]) (rest := []) (m_X6_readNumber _ _ _ _ _ hv8) (Nat.le_of_ble_eq_true rfl) (Nat.le_of_ble_eq_true rfl) rfl (Nat.le_of_ble_eq_true rfl) dX6_readCommand_61 (gCont_i ?_)
    refine gw_if_ne (tgt := 69) dX6_readCommand_64 (by decide) (fun hcnd => ?_) (fun hcnd => ?_)
    · rw [if_neg hcnd] at hB
      refine gw_iinc (w := (1 : Int32)) (L' := [(2, vI (l2 + (1 : Int32))), (0, vR l0), (1, vI l1)]) 2 rfl (by decide) (Nat.le_of_ble_eq_true rfl) rfl dX6_readCommand_69 ?_
      refine gw_goto (tgt := 54) dX6_readCommand_72 (by decide) ?_
      exact gw_sub [1, 2, 0] rfl (hk54 _ _ _ _ hB)
    · rw [if_pos hcnd] at hB
      refine gw_iconst (v := (0 : Int32)) (by decide) dX6_readCommand_67 ?_
      obtain ⟨u, hu, hB⟩ := gB1_some hB
      obtain ⟨rfl, rfl⟩ := Prod.mk.inj (Option.some.inj hB)
      exact gw_zret rfl hu rfl rfl dX6_readCommand_68
theorem w_X6_readCommand_54 {E : gE} {F z0 n0 : Nat} {r : Int32} {s' : gS}   : ∀ (n : Nat) (l0 : Option Nat) (l1 : Int32) (l2 : Int32)  (s : gS), f_X6_readCommand_54 (gk E) F  n l0 l1 l2 s = some (r, s') → W_X6_readCommand E z0 n0 r s' 54 [(0, vR l0), (1, vI l1), (2, vI l2)] [] s := by
  intro n
  induction n with
  | zero => intro l0 l1 l2 s hB; cases hB
  | succ n ih => intro l0 l1 l2 s hB; exact w_X6_readCommand_54b ih l0 l1 l2 s hB
noncomputable def f_X6_readCommand_51 (κ : gK) (F : Nat)  (l0 : Option Nat) (t0 : Int32) (s : gS) : Option (Int32 × gS) :=
  f_X6_readCommand_54 κ F  F l0 t0 (0 : Int32) s
set_option maxHeartbeats 4000000 in
theorem w_X6_readCommand_51 {E : gE} {F z0 n0 : Nat} {r : Int32} {s' : gS}   : ∀ (l0 : Option Nat) (t0 : Int32) (s : gS), f_X6_readCommand_51 (gk E) F  l0 t0 s = some (r, s') → W_X6_readCommand E z0 n0 r s' 51 [(0, vR l0)] [vI t0] s := by
  intro l0 t0 s hB
  unfold f_X6_readCommand_51 at hB
  refine gw_istore_n (L' := [(1, vI t0), (0, vR l0)]) (Nat.le_of_ble_eq_true rfl) rfl dX6_readCommand_51 ?_
  refine gw_iconst (v := (0 : Int32)) (by decide) dX6_readCommand_52 ?_
  refine gw_istore_n (L' := [(2, vI (0 : Int32)), (1, vI t0), (0, vR l0)]) (Nat.le_of_ble_eq_true rfl) rfl dX6_readCommand_53 ?_
  exact gw_sub [2, 1, 0] rfl (w_X6_readCommand_54  F _ _ _ _ hB)
noncomputable def f_X6_readCommand_46 (κ : gK) (F : Nat)  (l0 : Option Nat) (s : gS) : Option (Int32 × gS) :=
  f_X6_readCommand_51 κ F  l0 (1 : Int32) s
set_option maxHeartbeats 4000000 in
theorem w_X6_readCommand_46 {E : gE} {F z0 n0 : Nat} {r : Int32} {s' : gS}   : ∀ (l0 : Option Nat)  (s : gS), f_X6_readCommand_46 (gk E) F  l0 s = some (r, s') → W_X6_readCommand E z0 n0 r s' 46 [(0, vR l0)] [] s := by
  intro l0 s hB
  unfold f_X6_readCommand_46 at hB
  refine gw_iconst (v := (1 : Int32)) (by decide) dX6_readCommand_46 ?_
  refine gw_goto (tgt := 51) dX6_readCommand_47 (by decide) ?_
  exact gw_sub [0] rfl (w_X6_readCommand_51  _ _ _ hB)
noncomputable def f_X6_readCommand_0 (κ : gK) (F : Nat)  (l0 : Option Nat) (s : gS) : Option (Int32 × gS) :=
  gB1 (gck s l0 9) fun _ =>
  gB2 (f_X6_readWord κ F l0  s) fun v2 s1 =>
  if v2 = 0 then
    gB1 (gok .boolean (0 : Int32)) fun _ => some ((0 : Int32), s1)
  else
    gB1 (gfI s1 l0 9 10) fun v4 =>
    if v4 = (2 : Int32) then
      f_X6_readCommand_51 κ F  l0 (2 : Int32) s1
    else
      gB1 (gfI s1 l0 9 10) fun v5 =>
      if v5 = (3 : Int32) then
        f_X6_readCommand_46 κ F  l0 s1
      else
        gB1 (gfI s1 l0 9 10) fun v6 =>
        if v6 = (4 : Int32) then
          f_X6_readCommand_46 κ F  l0 s1
        else
          gB1 (gfI s1 l0 9 10) fun v7 =>
          if v7 = (7 : Int32) then
            f_X6_readCommand_46 κ F  l0 s1
          else
            f_X6_readCommand_51 κ F  l0 (0 : Int32) s1
set_option maxHeartbeats 4000000 in
theorem w_X6_readCommand_0 {E : gE} {F z0 n0 : Nat} {r : Int32} {s' : gS}   : ∀ (l0 : Option Nat)  (s : gS), f_X6_readCommand_0 (gk E) F  l0 s = some (r, s') → W_X6_readCommand E z0 n0 r s' 0 [(0, vR l0)] [] s := by
  intro l0 s hB
  unfold f_X6_readCommand_0 at hB
  refine gw_aload_n 0 rfl dX6_readCommand_0 ?_
  obtain ⟨u0, hu3, hB⟩ := gB1_some hB
  obtain ⟨v2, s1, hv2, hB⟩ := gB2_some hB
  refine gw_callV (y := yX6_readWord) (lw_V q3062 q3064 qs102 q143 q3065) hdV_X6_readWord gcl9 hu3 (As := []) (rest := []) (m_X6_readWord _ _ _ _ hv2) (Nat.le_of_ble_eq_true rfl) (Nat.le_of_ble_eq_true rfl) rfl (Nat.le_of_ble_eq_true rfl) dX6_readCommand_1 (gCont_i ?_)
  refine gw_if_ne (tgt := 9) dX6_readCommand_4 (by decide) (fun hcnd => ?_) (fun hcnd => ?_)
  · rw [if_neg hcnd] at hB
    refine gw_aload_n 0 rfl dX6_readCommand_9 ?_
    obtain ⟨v4, hv4, hB⟩ := gB1_some hB
    refine gw_getf (C := RX6) (T := TX6) (N := 13) (k := 10) gcl9 (by decide) in_X6 q2704 (gfI_spec hv4) dX6_readCommand_10 ?_
    refine gw_iconst (v := (2 : Int32)) (by decide) dX6_readCommand_13 ?_
    refine gw_icmp_ne (tgt := 21) dX6_readCommand_14 (by decide) (fun hcnd => ?_) (fun hcnd => ?_)
    · rw [if_neg hcnd] at hB
      refine gw_aload_n 0 rfl dX6_readCommand_21 ?_
      obtain ⟨v5, hv5, hB⟩ := gB1_some hB
      refine gw_getf (C := RX6) (T := TX6) (N := 13) (k := 10) gcl9 (by decide) in_X6 q2704 (gfI_spec hv5) dX6_readCommand_22 ?_
      refine gw_iconst (v := (3 : Int32)) (by decide) dX6_readCommand_25 ?_
      refine gw_icmp_eq (tgt := 46) dX6_readCommand_26 (by decide) (fun hcnd => ?_) (fun hcnd => ?_)
      · rw [if_pos hcnd] at hB
        exact gw_sub [0] rfl (w_X6_readCommand_46  _ _ hB)
      · rw [if_neg hcnd] at hB
        refine gw_aload_n 0 rfl dX6_readCommand_29 ?_
        obtain ⟨v6, hv6, hB⟩ := gB1_some hB
        refine gw_getf (C := RX6) (T := TX6) (N := 13) (k := 10) gcl9 (by decide) in_X6 q2704 (gfI_spec hv6) dX6_readCommand_30 ?_
        refine gw_iconst (v := (4 : Int32)) (by decide) dX6_readCommand_33 ?_
        refine gw_icmp_eq (tgt := 46) dX6_readCommand_34 (by decide) (fun hcnd => ?_) (fun hcnd => ?_)
        · rw [if_pos hcnd] at hB
          exact gw_sub [0] rfl (w_X6_readCommand_46  _ _ hB)
        · rw [if_neg hcnd] at hB
          refine gw_aload_n 0 rfl dX6_readCommand_37 ?_
          obtain ⟨v7, hv7, hB⟩ := gB1_some hB
          refine gw_getf (C := RX6) (T := TX6) (N := 13) (k := 10) gcl9 (by decide) in_X6 q2704 (gfI_spec hv7) dX6_readCommand_38 ?_
          refine gw_bipush (v := (7 : Int32)) (by decide) dX6_readCommand_41 ?_
          refine gw_icmp_ne (tgt := 50) dX6_readCommand_43 (by decide) (fun hcnd => ?_) (fun hcnd => ?_)
          · rw [if_neg hcnd] at hB
            refine gw_iconst (v := (0 : Int32)) (by decide) dX6_readCommand_50 ?_
            exact gw_sub [0] rfl (w_X6_readCommand_51  _ _ _ hB)
          · rw [if_pos hcnd] at hB
            exact gw_sub [0] rfl (w_X6_readCommand_46  _ _ hB)
    · rw [if_pos hcnd] at hB
      refine gw_iconst (v := (2 : Int32)) (by decide) dX6_readCommand_17 ?_
      refine gw_goto (tgt := 51) dX6_readCommand_18 (by decide) ?_
      exact gw_sub [0] rfl (w_X6_readCommand_51  _ _ _ hB)
  · rw [if_pos hcnd] at hB
    refine gw_iconst (v := (0 : Int32)) (by decide) dX6_readCommand_7 ?_
    obtain ⟨u, hu, hB⟩ := gB1_some hB
    obtain ⟨rfl, rfl⟩ := Prod.mk.inj (Option.some.inj hB)
    exact gw_zret rfl hu rfl rfl dX6_readCommand_8
noncomputable def f_X6_readCommand (κ : gK) (F : Nat) (a0 : Option Nat) (s : gS) : Option (Int32 × gS) := f_X6_readCommand_0 κ F a0 s
theorem m_X6_readCommand {E : gE} {F : Nat} (a0 : Option Nat) (s : gS) (r : Int32) (s' : gS) (h : f_X6_readCommand (gk E) F a0 s = some (r, s')) : gCT E 4 yX6_readCommand (ws_ yX6_readCommand cX6_readCommand 3 (some FieldType.boolean)) [vR a0] s (.inl (some (vI r))) s' := by
  refine gCT_of2 (fun h => absurd h (by decide)) (plainFor_of_name (by decide)) (Nat.le_of_ble_eq_true rfl) ?_
  exact gw_sub [0] rfl (w_X6_readCommand_0 _ _ h)
def dkwX6_does_4 : List UInt8 := [172, 42, 182, 0, 169, 172, 42, 42, 180, 0, 25, 3, 46, 182, 0, 175, 172]
abbrev dktX6_does_4 : List UInt8 := dkwX6_does_4 ++ []
def dkwX6_does_3 : List UInt8 := [180, 0, 25, 3, 46, 182, 0, 154, 172, 42, 42, 180, 0, 25, 3, 46, 182, 0, 163, 172, 42, 182, 0, 166]
abbrev dktX6_does_3 : List UInt8 := dkwX6_does_3 ++ dktX6_does_4
def dkwX6_does_2 : List UInt8 := [42, 182, 0, 145, 172, 42, 42, 180, 0, 25, 3, 46, 42, 180, 0, 25, 4, 46, 182, 0, 151, 172, 42, 42]
abbrev dktX6_does_2 : List UInt8 := dkwX6_does_2 ++ dktX6_does_3
def dkwX6_does_1 : List UInt8 := [170, 0, 0, 0, 0, 0, 0, 94, 0, 0, 0, 1, 0, 0, 0, 6, 0, 0, 0, 40, 0, 0, 0, 45, 0, 0, 0, 62, 0, 0, 0, 73, 0, 0, 0, 84, 0, 0, 0, 89]
abbrev dktX6_does_1 : List UInt8 := dkwX6_does_1 ++ dktX6_does_2
def dkwX6_does_0 : List UInt8 := [42, 180, 0, 248]
abbrev dktX6_does_0 : List UInt8 := dkwX6_does_0 ++ dktX6_does_1
theorem dksX6_does_0 : cX6_does.data.toList.drop 0 = dktX6_does_0 := by decide +kernel
theorem dksX6_does_1 : cX6_does.data.toList.drop 4 = dktX6_does_1 := dk_seg dksX6_does_0 4 rfl rfl
theorem dksX6_does_2 : cX6_does.data.toList.drop 44 = dktX6_does_2 := dk_seg dksX6_does_1 40 rfl rfl
theorem dksX6_does_3 : cX6_does.data.toList.drop 68 = dktX6_does_3 := dk_seg dksX6_does_2 24 rfl rfl
theorem dksX6_does_4 : cX6_does.data.toList.drop 92 = dktX6_does_4 := dk_seg dksX6_does_3 24 rfl rfl
theorem dX6_does_0 : decode cX6_does 0 = .ok (.aload_n 0, 1) := dk_42 (dk_at dksX6_does_0 0 rfl rfl)
theorem dX6_does_1 : decode cX6_does 1 = .ok (.getfield 248, 3) := dk_180 0 248 (dk_at dksX6_does_0 1 rfl rfl)
theorem dX6_does_4 : decode cX6_does 4 = .ok (.tableswitch 94 1 6 #[40, 45, 62, 73, 84, 89], 40) := by decide +kernel
theorem dX6_does_44 : decode cX6_does 44 = .ok (.aload_n 0, 1) := dk_42 (dk_at dksX6_does_2 0 rfl rfl)
theorem dX6_does_45 : decode cX6_does 45 = .ok (.invokevirtual 145, 3) := dk_182 0 145 (dk_at dksX6_does_2 1 rfl rfl)
theorem dX6_does_48 : decode cX6_does 48 = .ok (.ireturn, 1) := dk_172 (dk_at dksX6_does_2 4 rfl rfl)
theorem dX6_does_49 : decode cX6_does 49 = .ok (.aload_n 0, 1) := dk_42 (dk_at dksX6_does_2 5 rfl rfl)
theorem dX6_does_50 : decode cX6_does 50 = .ok (.aload_n 0, 1) := dk_42 (dk_at dksX6_does_2 6 rfl rfl)
theorem dX6_does_51 : decode cX6_does 51 = .ok (.getfield 25, 3) := dk_180 0 25 (dk_at dksX6_does_2 7 rfl rfl)
theorem dX6_does_54 : decode cX6_does 54 = .ok (.iconst 0, 1) := dk_3 (dk_at dksX6_does_2 10 rfl rfl)
theorem dX6_does_55 : decode cX6_does 55 = .ok (.iaload, 1) := dk_46 (dk_at dksX6_does_2 11 rfl rfl)
theorem dX6_does_56 : decode cX6_does 56 = .ok (.aload_n 0, 1) := dk_42 (dk_at dksX6_does_2 12 rfl rfl)
theorem dX6_does_57 : decode cX6_does 57 = .ok (.getfield 25, 3) := dk_180 0 25 (dk_at dksX6_does_2 13 rfl rfl)
theorem dX6_does_60 : decode cX6_does 60 = .ok (.iconst 1, 1) := dk_4 (dk_at dksX6_does_2 16 rfl rfl)
theorem dX6_does_61 : decode cX6_does 61 = .ok (.iaload, 1) := dk_46 (dk_at dksX6_does_2 17 rfl rfl)
theorem dX6_does_62 : decode cX6_does 62 = .ok (.invokevirtual 151, 3) := dk_182 0 151 (dk_at dksX6_does_2 18 rfl rfl)
theorem dX6_does_65 : decode cX6_does 65 = .ok (.ireturn, 1) := dk_172 (dk_at dksX6_does_2 21 rfl rfl)
theorem dX6_does_66 : decode cX6_does 66 = .ok (.aload_n 0, 1) := dk_42 (dk_at dksX6_does_2 22 rfl rfl)
theorem dX6_does_67 : decode cX6_does 67 = .ok (.aload_n 0, 1) := dk_42 (dk_at dksX6_does_2 23 rfl rfl)
theorem dX6_does_68 : decode cX6_does 68 = .ok (.getfield 25, 3) := dk_180 0 25 (dk_at dksX6_does_3 0 rfl rfl)
theorem dX6_does_71 : decode cX6_does 71 = .ok (.iconst 0, 1) := dk_3 (dk_at dksX6_does_3 3 rfl rfl)
theorem dX6_does_72 : decode cX6_does 72 = .ok (.iaload, 1) := dk_46 (dk_at dksX6_does_3 4 rfl rfl)
theorem dX6_does_73 : decode cX6_does 73 = .ok (.invokevirtual 154, 3) := dk_182 0 154 (dk_at dksX6_does_3 5 rfl rfl)
theorem dX6_does_76 : decode cX6_does 76 = .ok (.ireturn, 1) := dk_172 (dk_at dksX6_does_3 8 rfl rfl)
theorem dX6_does_77 : decode cX6_does 77 = .ok (.aload_n 0, 1) := dk_42 (dk_at dksX6_does_3 9 rfl rfl)
theorem dX6_does_78 : decode cX6_does 78 = .ok (.aload_n 0, 1) := dk_42 (dk_at dksX6_does_3 10 rfl rfl)
theorem dX6_does_79 : decode cX6_does 79 = .ok (.getfield 25, 3) := dk_180 0 25 (dk_at dksX6_does_3 11 rfl rfl)
theorem dX6_does_82 : decode cX6_does 82 = .ok (.iconst 0, 1) := dk_3 (dk_at dksX6_does_3 14 rfl rfl)
theorem dX6_does_83 : decode cX6_does 83 = .ok (.iaload, 1) := dk_46 (dk_at dksX6_does_3 15 rfl rfl)
theorem dX6_does_84 : decode cX6_does 84 = .ok (.invokevirtual 163, 3) := dk_182 0 163 (dk_at dksX6_does_3 16 rfl rfl)
theorem dX6_does_87 : decode cX6_does 87 = .ok (.ireturn, 1) := dk_172 (dk_at dksX6_does_3 19 rfl rfl)
theorem dX6_does_88 : decode cX6_does 88 = .ok (.aload_n 0, 1) := dk_42 (dk_at dksX6_does_3 20 rfl rfl)
theorem dX6_does_89 : decode cX6_does 89 = .ok (.invokevirtual 166, 3) := dk_182 0 166 (dk_at dksX6_does_3 21 rfl rfl)
theorem dX6_does_92 : decode cX6_does 92 = .ok (.ireturn, 1) := dk_172 (dk_at dksX6_does_4 0 rfl rfl)
theorem dX6_does_93 : decode cX6_does 93 = .ok (.aload_n 0, 1) := dk_42 (dk_at dksX6_does_4 1 rfl rfl)
theorem dX6_does_94 : decode cX6_does 94 = .ok (.invokevirtual 169, 3) := dk_182 0 169 (dk_at dksX6_does_4 2 rfl rfl)
theorem dX6_does_97 : decode cX6_does 97 = .ok (.ireturn, 1) := dk_172 (dk_at dksX6_does_4 5 rfl rfl)
theorem dX6_does_98 : decode cX6_does 98 = .ok (.aload_n 0, 1) := dk_42 (dk_at dksX6_does_4 6 rfl rfl)
theorem dX6_does_99 : decode cX6_does 99 = .ok (.aload_n 0, 1) := dk_42 (dk_at dksX6_does_4 7 rfl rfl)
theorem dX6_does_100 : decode cX6_does 100 = .ok (.getfield 25, 3) := dk_180 0 25 (dk_at dksX6_does_4 8 rfl rfl)
theorem dX6_does_103 : decode cX6_does 103 = .ok (.iconst 0, 1) := dk_3 (dk_at dksX6_does_4 11 rfl rfl)
theorem dX6_does_104 : decode cX6_does 104 = .ok (.iaload, 1) := dk_46 (dk_at dksX6_does_4 12 rfl rfl)
theorem dX6_does_105 : decode cX6_does 105 = .ok (.invokevirtual 175, 3) := dk_182 0 175 (dk_at dksX6_does_4 13 rfl rfl)
theorem dX6_does_108 : decode cX6_does 108 = .ok (.ireturn, 1) := dk_172 (dk_at dksX6_does_4 16 rfl rfl)
/-! PageGardenModel.does()I -/
abbrev M_X6_does (z0 n0 : Nat) (s' : gS) : gM := (RX6, cX6_does, 1, (some FieldType.int), "does", [], 8, z0, n0, s'.2.1, s'.2.2)
abbrev W_X6_does (E : gE) (z0 n0 : Nat) (r : Int32) (s' : gS) (pc : Nat) (L : List (Nat × gV)) (st : List gV) (s : gS) : Prop := gW E (M_X6_does z0 n0 s') (gQm E (M_X6_does z0 n0 s') (.inl (some (vI r))) s') pc L st s
noncomputable def f_X6_does_0 (κ : gK) (F : Nat)  (l0 : Option Nat) (s : gS) : Option (Int32 × gS) :=
  gB1 (gfI s l0 9 10) fun v1 =>
  if v1 = (1 : Int32) then
    gB1 (gck s l0 9) fun _ =>
    gB2 (f_X6_doBegin κ F l0  s) fun v3 s2 =>
    some (v3, s2)
  else
  if v1 = (2 : Int32) then
    gB1 (gfR s l0 9 11) fun v5 =>
    gB1 (gaI s v5 0 (0 : Int32)) fun v6 =>
    gB1 (gfR s l0 9 11) fun v7 =>
    gB1 (gaI s v7 0 (1 : Int32)) fun v8 =>
    gB1 (gck s l0 9) fun _ =>
    gB2 (f_X6_doPut κ F l0 v6 v8 s) fun v10 s9 =>
    some (v10, s9)
  else
  if v1 = (3 : Int32) then
    gB1 (gfR s l0 9 11) fun v12 =>
    gB1 (gaI s v12 0 (0 : Int32)) fun v13 =>
    gB1 (gck s l0 9) fun _ =>
    gB2 (f_X6_doRemove κ F l0 v13 s) fun v15 s14 =>
    some (v15, s14)
  else
  if v1 = (4 : Int32) then
    gB1 (gfR s l0 9 11) fun v17 =>
    gB1 (gaI s v17 0 (0 : Int32)) fun v18 =>
    gB1 (gck s l0 9) fun _ =>
    gB2 (f_X6_doCommit κ F l0 v18 s) fun v20 s19 =>
    some (v20, s19)
  else
  if v1 = (5 : Int32) then
    gB1 (gck s l0 9) fun _ =>
    gB2 (f_X6_doAbort κ F l0  s) fun v23 s22 =>
    some (v23, s22)
  else
  if v1 = (6 : Int32) then
    gB1 (gck s l0 9) fun _ =>
    gB2 (f_X6_doOpen κ F l0  s) fun v26 s25 =>
    some (v26, s25)
  else
  gB1 (gfR s l0 9 11) fun v28 =>
  gB1 (gaI s v28 0 (0 : Int32)) fun v29 =>
  gB1 (gck s l0 9) fun _ =>
  gB2 (f_X6_doClose κ F l0 v29 s) fun v31 s30 =>
  some (v31, s30)
set_option maxHeartbeats 4000000 in
theorem w_X6_does_0 {E : gE} {F z0 n0 : Nat} {r : Int32} {s' : gS}   : ∀ (l0 : Option Nat)  (s : gS), f_X6_does_0 (gk E) F  l0 s = some (r, s') → W_X6_does E z0 n0 r s' 0 [(0, vR l0)] [] s := by
  intro l0 s hB
  unfold f_X6_does_0 at hB
  refine gw_aload_n 0 rfl dX6_does_0 ?_
  obtain ⟨v1, hv1, hB⟩ := gB1_some hB
  refine gw_getf (C := RX6) (T := TX6) (N := 13) (k := 10) gcl9 (by decide) in_X6 q2704 (gfI_spec hv1) dX6_does_1 ?_
  by_cases hs1 : v1 = (1 : Int32)
  · rw [if_pos hs1] at hB
    refine gw_tableIn (off := 40) (tgt := 44) (by rw [hs1]; decide) (by rw [hs1]; decide) (by rw [hs1]; rfl) dX6_does_4 (by decide) ?_
    refine gw_aload_n 0 rfl dX6_does_44 ?_
    obtain ⟨u0, hu4, hB⟩ := gB1_some hB
    obtain ⟨v3, s2, hv3, hB⟩ := gB2_some hB
    refine gw_callV (y := yX6_doBegin) (lw_V q2749 q2751 qs48 q143 q2752) hdV_X6_doBegin gcl9 hu4 (As := []) (rest := []) (m_X6_doBegin _ _ _ _ hv3) (Nat.le_of_ble_eq_true rfl) (Nat.le_of_ble_eq_true rfl) rfl (Nat.le_of_ble_eq_true rfl) dX6_does_45 (gCont_i ?_)
    obtain ⟨rfl, rfl⟩ := Prod.mk.inj (Option.some.inj hB)
    exact gw_iret rfl rfl rfl dX6_does_48
  rw [if_neg hs1] at hB
  by_cases hs2 : v1 = (2 : Int32)
  · rw [if_pos hs2] at hB
    refine gw_tableIn (off := 45) (tgt := 49) (by rw [hs2]; decide) (by rw [hs2]; decide) (by rw [hs2]; rfl) dX6_does_4 (by decide) ?_
    refine gw_aload_n 0 rfl dX6_does_49 ?_
    refine gw_aload_n 0 rfl dX6_does_50 ?_
    obtain ⟨v5, hv5, hB⟩ := gB1_some hB
    refine gw_getf (C := RX6) (T := TX6) (N := 13) (k := 11) gcl9 (by decide) in_X6 q2705 (gfR_spec hv5) dX6_does_51 ?_
    refine gw_iconst (v := (0 : Int32)) (by decide) dX6_does_54 ?_
    obtain ⟨v6, hv6, hB⟩ := gB1_some hB
    refine gw_iaload hv6 dX6_does_55 ?_
    refine gw_aload_n 0 rfl dX6_does_56 ?_
    obtain ⟨v7, hv7, hB⟩ := gB1_some hB
    refine gw_getf (C := RX6) (T := TX6) (N := 13) (k := 11) gcl9 (by decide) in_X6 q2705 (gfR_spec hv7) dX6_does_57 ?_
    refine gw_iconst (v := (1 : Int32)) (by decide) dX6_does_60 ?_
    obtain ⟨v8, hv8, hB⟩ := gB1_some hB
    refine gw_iaload hv8 dX6_does_61 ?_
    obtain ⟨u0, hu11, hB⟩ := gB1_some hB
    obtain ⟨v10, s9, hv10, hB⟩ := gB2_some hB
    refine gw_callV (y := yX6_doPut) (lw_V q2773 q2775 qs53 q143 q2776) hdV_X6_doPut gcl9 hu11 (As := [vI v6, vI v8]) (rest := []) (m_X6_doPut _ _ _ _ _ _ hv10) (Nat.le_of_ble_eq_true rfl) (Nat.le_of_ble_eq_true rfl) rfl (Nat.le_of_ble_eq_true rfl) dX6_does_62 (gCont_i ?_)
    obtain ⟨rfl, rfl⟩ := Prod.mk.inj (Option.some.inj hB)
    exact gw_iret rfl rfl rfl dX6_does_65
  rw [if_neg hs2] at hB
  by_cases hs3 : v1 = (3 : Int32)
  · rw [if_pos hs3] at hB
    refine gw_tableIn (off := 62) (tgt := 66) (by rw [hs3]; decide) (by rw [hs3]; decide) (by rw [hs3]; rfl) dX6_does_4 (by decide) ?_
    refine gw_aload_n 0 rfl dX6_does_66 ?_
    refine gw_aload_n 0 rfl dX6_does_67 ?_
    obtain ⟨v12, hv12, hB⟩ := gB1_some hB
    refine gw_getf (C := RX6) (T := TX6) (N := 13) (k := 11) gcl9 (by decide) in_X6 q2705 (gfR_spec hv12) dX6_does_68 ?_
    refine gw_iconst (v := (0 : Int32)) (by decide) dX6_does_71 ?_
    obtain ⟨v13, hv13, hB⟩ := gB1_some hB
    refine gw_iaload hv13 dX6_does_72 ?_
    obtain ⟨u0, hu16, hB⟩ := gB1_some hB
    obtain ⟨v15, s14, hv15, hB⟩ := gB2_some hB
    refine gw_callV (y := yX6_doRemove) (lw_V q2884 q2886 qs79 q143 q2887) hdV_X6_doRemove gcl9 hu16 (As := [vI v13]) (rest := []) (m_X6_doRemove _ _ _ _ _ hv15) (Nat.le_of_ble_eq_true rfl) (Nat.le_of_ble_eq_true rfl) rfl (Nat.le_of_ble_eq_true rfl) dX6_does_73 (gCont_i ?_)
    obtain ⟨rfl, rfl⟩ := Prod.mk.inj (Option.some.inj hB)
    exact gw_iret rfl rfl rfl dX6_does_76
  rw [if_neg hs3] at hB
  by_cases hs4 : v1 = (4 : Int32)
  · rw [if_pos hs4] at hB
    refine gw_tableIn (off := 73) (tgt := 77) (by rw [hs4]; decide) (by rw [hs4]; decide) (by rw [hs4]; rfl) dX6_does_4 (by decide) ?_
    refine gw_aload_n 0 rfl dX6_does_77 ?_
    refine gw_aload_n 0 rfl dX6_does_78 ?_
    obtain ⟨v17, hv17, hB⟩ := gB1_some hB
    refine gw_getf (C := RX6) (T := TX6) (N := 13) (k := 11) gcl9 (by decide) in_X6 q2705 (gfR_spec hv17) dX6_does_79 ?_
    refine gw_iconst (v := (0 : Int32)) (by decide) dX6_does_82 ?_
    obtain ⟨v18, hv18, hB⟩ := gB1_some hB
    refine gw_iaload hv18 dX6_does_83 ?_
    obtain ⟨u0, hu21, hB⟩ := gB1_some hB
    obtain ⟨v20, s19, hv20, hB⟩ := gB2_some hB
    refine gw_callV (y := yX6_doCommit) (lw_V q2896 q2898 qs81 q143 q2899) hdV_X6_doCommit gcl9 hu21 (As := [vI v18]) (rest := []) (m_X6_doCommit _ _ _ _ _ hv20) (Nat.le_of_ble_eq_true rfl) (Nat.le_of_ble_eq_true rfl) rfl (Nat.le_of_ble_eq_true rfl) dX6_does_84 (gCont_i ?_)
    obtain ⟨rfl, rfl⟩ := Prod.mk.inj (Option.some.inj hB)
    exact gw_iret rfl rfl rfl dX6_does_87
  rw [if_neg hs4] at hB
  by_cases hs5 : v1 = (5 : Int32)
  · rw [if_pos hs5] at hB
    refine gw_tableIn (off := 84) (tgt := 88) (by rw [hs5]; decide) (by rw [hs5]; decide) (by rw [hs5]; rfl) dX6_does_4 (by decide) ?_
    refine gw_aload_n 0 rfl dX6_does_88 ?_
    obtain ⟨u0, hu24, hB⟩ := gB1_some hB
    obtain ⟨v23, s22, hv23, hB⟩ := gB2_some hB
    refine gw_callV (y := yX6_doAbort) (lw_V q2912 q2914 qs84 q143 q2915) hdV_X6_doAbort gcl9 hu24 (As := []) (rest := []) (m_X6_doAbort _ _ _ _ hv23) (Nat.le_of_ble_eq_true rfl) (Nat.le_of_ble_eq_true rfl) rfl (Nat.le_of_ble_eq_true rfl) dX6_does_89 (gCont_i ?_)
    obtain ⟨rfl, rfl⟩ := Prod.mk.inj (Option.some.inj hB)
    exact gw_iret rfl rfl rfl dX6_does_92
  rw [if_neg hs5] at hB
  by_cases hs6 : v1 = (6 : Int32)
  · rw [if_pos hs6] at hB
    refine gw_tableIn (off := 89) (tgt := 93) (by rw [hs6]; decide) (by rw [hs6]; decide) (by rw [hs6]; rfl) dX6_does_4 (by decide) ?_
    refine gw_aload_n 0 rfl dX6_does_93 ?_
    obtain ⟨u0, hu27, hB⟩ := gB1_some hB
    obtain ⟨v26, s25, hv26, hB⟩ := gB2_some hB
    refine gw_callV (y := yX6_doOpen) (lw_V q2920 q2922 qs85 q143 q2923) hdV_X6_doOpen gcl9 hu27 (As := []) (rest := []) (m_X6_doOpen _ _ _ _ hv26) (Nat.le_of_ble_eq_true rfl) (Nat.le_of_ble_eq_true rfl) rfl (Nat.le_of_ble_eq_true rfl) dX6_does_94 (gCont_i ?_)
    obtain ⟨rfl, rfl⟩ := Prod.mk.inj (Option.some.inj hB)
    exact gw_iret rfl rfl rfl dX6_does_97
  rw [if_neg hs6] at hB
  have ht1 : v1.toInt ≠ 1 := fun e => hs1 (Int32.toInt_inj.mp (e.trans (by decide)))
  have ht2 : v1.toInt ≠ 2 := fun e => hs2 (Int32.toInt_inj.mp (e.trans (by decide)))
  have ht3 : v1.toInt ≠ 3 := fun e => hs3 (Int32.toInt_inj.mp (e.trans (by decide)))
  have ht4 : v1.toInt ≠ 4 := fun e => hs4 (Int32.toInt_inj.mp (e.trans (by decide)))
  have ht5 : v1.toInt ≠ 5 := fun e => hs5 (Int32.toInt_inj.mp (e.trans (by decide)))
  have ht6 : v1.toInt ≠ 6 := fun e => hs6 (Int32.toInt_inj.mp (e.trans (by decide)))
  refine gw_tableOut (tgt := 98) (by omega) dX6_does_4 (by decide) ?_
  refine gw_aload_n 0 rfl dX6_does_98 ?_
  refine gw_aload_n 0 rfl dX6_does_99 ?_
  obtain ⟨v28, hv28, hB⟩ := gB1_some hB
  refine gw_getf (C := RX6) (T := TX6) (N := 13) (k := 11) gcl9 (by decide) in_X6 q2705 (gfR_spec hv28) dX6_does_100 ?_
  refine gw_iconst (v := (0 : Int32)) (by decide) dX6_does_103 ?_
  obtain ⟨v29, hv29, hB⟩ := gB1_some hB
  refine gw_iaload hv29 dX6_does_104 ?_
  obtain ⟨u0, hu32, hB⟩ := gB1_some hB
  obtain ⟨v31, s30, hv31, hB⟩ := gB2_some hB
  refine gw_callV (y := yX6_doClose) (lw_V q2928 q2930 qs86 q143 q2931) hdV_X6_doClose gcl9 hu32 (As := [vI v29]) (rest := []) (m_X6_doClose _ _ _ _ _ hv31) (Nat.le_of_ble_eq_true rfl) (Nat.le_of_ble_eq_true rfl) rfl (Nat.le_of_ble_eq_true rfl) dX6_does_105 (gCont_i ?_)
  obtain ⟨rfl, rfl⟩ := Prod.mk.inj (Option.some.inj hB)
  exact gw_iret rfl rfl rfl dX6_does_108
noncomputable def f_X6_does (κ : gK) (F : Nat) (a0 : Option Nat) (s : gS) : Option (Int32 × gS) := f_X6_does_0 κ F a0 s
theorem m_X6_does {E : gE} {F : Nat} (a0 : Option Nat) (s : gS) (r : Int32) (s' : gS) (h : f_X6_does (gk E) F a0 s = some (r, s')) : gCT E 8 yX6_does (ws_ yX6_does cX6_does 1 (some FieldType.int)) [vR a0] s (.inl (some (vI r))) s' := by
  refine gCT_of2 (fun h => absurd h (by decide)) (plainFor_of_name (by decide)) (Nat.le_of_ble_eq_true rfl) ?_
  exact gw_sub [0] rfl (w_X6_does_0 _ _ h)
def dkwX6_runCommands_5 : List UInt8 := [167, 255, 205, 42, 3, 181, 0, 32, 42, 27, 182, 0, 148, 172]
abbrev dktX6_runCommands_5 : List UInt8 := dkwX6_runCommands_5 ++ []
def dkwX6_runCommands_4 : List UInt8 := [28, 153, 0, 14, 42, 180, 0, 32, 154, 0, 7, 4, 167, 0, 4, 3, 96, 60, 42, 182, 0, 251]
abbrev dktX6_runCommands_4 : List UInt8 := dkwX6_runCommands_4 ++ dktX6_runCommands_5
def dkwX6_runCommands_3 : List UInt8 := [180, 0, 211, 162, 0, 46, 42, 180, 0, 32, 154, 0, 39, 42, 182, 1, 5, 61, 42, 182, 1, 8, 62, 27]
abbrev dktX6_runCommands_3 : List UInt8 := dkwX6_runCommands_3 ++ dktX6_runCommands_4
def dkwX6_runCommands_2 : List UInt8 := [167, 255, 226, 42, 182, 0, 142, 42, 3, 181, 0, 220, 3, 60, 42, 182, 0, 251, 42, 180, 0, 220, 42]
abbrev dktX6_runCommands_2 : List UInt8 := dkwX6_runCommands_2 ++ dktX6_runCommands_3
def dkwX6_runCommands_1 : List UInt8 := [162, 0, 25, 42, 182, 1, 5, 154, 0, 11, 16, 246, 42, 180, 0, 220, 100, 172, 42, 182, 0, 251]
abbrev dktX6_runCommands_1 : List UInt8 := dkwX6_runCommands_1 ++ dktX6_runCommands_2
def dkwX6_runCommands_0 : List UInt8 := [42, 3, 181, 0, 28, 42, 3, 181, 0, 220, 42, 182, 0, 251, 42, 180, 0, 220, 42, 180, 0, 211]
abbrev dktX6_runCommands_0 : List UInt8 := dkwX6_runCommands_0 ++ dktX6_runCommands_1
theorem dksX6_runCommands_0 : cX6_runCommands.data.toList.drop 0 = dktX6_runCommands_0 := by decide +kernel
theorem dksX6_runCommands_1 : cX6_runCommands.data.toList.drop 22 = dktX6_runCommands_1 := dk_seg dksX6_runCommands_0 22 rfl rfl
theorem dksX6_runCommands_2 : cX6_runCommands.data.toList.drop 44 = dktX6_runCommands_2 := dk_seg dksX6_runCommands_1 22 rfl rfl
theorem dksX6_runCommands_3 : cX6_runCommands.data.toList.drop 67 = dktX6_runCommands_3 := dk_seg dksX6_runCommands_2 23 rfl rfl
theorem dksX6_runCommands_4 : cX6_runCommands.data.toList.drop 91 = dktX6_runCommands_4 := dk_seg dksX6_runCommands_3 24 rfl rfl
theorem dksX6_runCommands_5 : cX6_runCommands.data.toList.drop 113 = dktX6_runCommands_5 := dk_seg dksX6_runCommands_4 22 rfl rfl
theorem dX6_runCommands_0 : decode cX6_runCommands 0 = .ok (.aload_n 0, 1) := dk_42 (dk_at dksX6_runCommands_0 0 rfl rfl)
theorem dX6_runCommands_1 : decode cX6_runCommands 1 = .ok (.iconst 0, 1) := dk_3 (dk_at dksX6_runCommands_0 1 rfl rfl)
theorem dX6_runCommands_2 : decode cX6_runCommands 2 = .ok (.putfield 28, 3) := dk_181 0 28 (dk_at dksX6_runCommands_0 2 rfl rfl)
theorem dX6_runCommands_5 : decode cX6_runCommands 5 = .ok (.aload_n 0, 1) := dk_42 (dk_at dksX6_runCommands_0 5 rfl rfl)
theorem dX6_runCommands_6 : decode cX6_runCommands 6 = .ok (.iconst 0, 1) := dk_3 (dk_at dksX6_runCommands_0 6 rfl rfl)
theorem dX6_runCommands_7 : decode cX6_runCommands 7 = .ok (.putfield 220, 3) := dk_181 0 220 (dk_at dksX6_runCommands_0 7 rfl rfl)
theorem dX6_runCommands_10 : decode cX6_runCommands 10 = .ok (.aload_n 0, 1) := dk_42 (dk_at dksX6_runCommands_0 10 rfl rfl)
theorem dX6_runCommands_11 : decode cX6_runCommands 11 = .ok (.invokevirtual 251, 3) := dk_182 0 251 (dk_at dksX6_runCommands_0 11 rfl rfl)
theorem dX6_runCommands_14 : decode cX6_runCommands 14 = .ok (.aload_n 0, 1) := dk_42 (dk_at dksX6_runCommands_0 14 rfl rfl)
theorem dX6_runCommands_15 : decode cX6_runCommands 15 = .ok (.getfield 220, 3) := dk_180 0 220 (dk_at dksX6_runCommands_0 15 rfl rfl)
theorem dX6_runCommands_18 : decode cX6_runCommands 18 = .ok (.aload_n 0, 1) := dk_42 (dk_at dksX6_runCommands_0 18 rfl rfl)
theorem dX6_runCommands_19 : decode cX6_runCommands 19 = .ok (.getfield 211, 3) := dk_180 0 211 (dk_at dksX6_runCommands_0 19 rfl rfl)
theorem dX6_runCommands_22 : decode cX6_runCommands 22 = .ok (.if_icmp .ge 25, 3) := dk_162 0 25 (dk_at dksX6_runCommands_1 0 rfl rfl)
theorem dX6_runCommands_25 : decode cX6_runCommands 25 = .ok (.aload_n 0, 1) := dk_42 (dk_at dksX6_runCommands_1 3 rfl rfl)
theorem dX6_runCommands_26 : decode cX6_runCommands 26 = .ok (.invokevirtual 261, 3) := dk_182 1 5 (dk_at dksX6_runCommands_1 4 rfl rfl)
theorem dX6_runCommands_29 : decode cX6_runCommands 29 = .ok (.ifCond .ne 11, 3) := dk_154 0 11 (dk_at dksX6_runCommands_1 7 rfl rfl)
theorem dX6_runCommands_32 : decode cX6_runCommands 32 = .ok (.bipush (-10), 2) := dk_16 246 (dk_at dksX6_runCommands_1 10 rfl rfl)
theorem dX6_runCommands_34 : decode cX6_runCommands 34 = .ok (.aload_n 0, 1) := dk_42 (dk_at dksX6_runCommands_1 12 rfl rfl)
theorem dX6_runCommands_35 : decode cX6_runCommands 35 = .ok (.getfield 220, 3) := dk_180 0 220 (dk_at dksX6_runCommands_1 13 rfl rfl)
theorem dX6_runCommands_38 : decode cX6_runCommands 38 = .ok (.isub, 1) := dk_100 (dk_at dksX6_runCommands_1 16 rfl rfl)
theorem dX6_runCommands_39 : decode cX6_runCommands 39 = .ok (.ireturn, 1) := dk_172 (dk_at dksX6_runCommands_1 17 rfl rfl)
theorem dX6_runCommands_40 : decode cX6_runCommands 40 = .ok (.aload_n 0, 1) := dk_42 (dk_at dksX6_runCommands_1 18 rfl rfl)
theorem dX6_runCommands_41 : decode cX6_runCommands 41 = .ok (.invokevirtual 251, 3) := dk_182 0 251 (dk_at dksX6_runCommands_1 19 rfl rfl)
theorem dX6_runCommands_44 : decode cX6_runCommands 44 = .ok (.goto (-30), 3) := dk_167 255 226 (dk_at dksX6_runCommands_2 0 rfl rfl)
theorem dX6_runCommands_47 : decode cX6_runCommands 47 = .ok (.aload_n 0, 1) := dk_42 (dk_at dksX6_runCommands_2 3 rfl rfl)
theorem dX6_runCommands_48 : decode cX6_runCommands 48 = .ok (.invokevirtual 142, 3) := dk_182 0 142 (dk_at dksX6_runCommands_2 4 rfl rfl)
theorem dX6_runCommands_51 : decode cX6_runCommands 51 = .ok (.aload_n 0, 1) := dk_42 (dk_at dksX6_runCommands_2 7 rfl rfl)
theorem dX6_runCommands_52 : decode cX6_runCommands 52 = .ok (.iconst 0, 1) := dk_3 (dk_at dksX6_runCommands_2 8 rfl rfl)
theorem dX6_runCommands_53 : decode cX6_runCommands 53 = .ok (.putfield 220, 3) := dk_181 0 220 (dk_at dksX6_runCommands_2 9 rfl rfl)
theorem dX6_runCommands_56 : decode cX6_runCommands 56 = .ok (.iconst 0, 1) := dk_3 (dk_at dksX6_runCommands_2 12 rfl rfl)
theorem dX6_runCommands_57 : decode cX6_runCommands 57 = .ok (.istore_n 1, 1) := dk_60 (dk_at dksX6_runCommands_2 13 rfl rfl)
theorem dX6_runCommands_58 : decode cX6_runCommands 58 = .ok (.aload_n 0, 1) := dk_42 (dk_at dksX6_runCommands_2 14 rfl rfl)
theorem dX6_runCommands_59 : decode cX6_runCommands 59 = .ok (.invokevirtual 251, 3) := dk_182 0 251 (dk_at dksX6_runCommands_2 15 rfl rfl)
theorem dX6_runCommands_62 : decode cX6_runCommands 62 = .ok (.aload_n 0, 1) := dk_42 (dk_at dksX6_runCommands_2 18 rfl rfl)
theorem dX6_runCommands_63 : decode cX6_runCommands 63 = .ok (.getfield 220, 3) := dk_180 0 220 (dk_at dksX6_runCommands_2 19 rfl rfl)
theorem dX6_runCommands_66 : decode cX6_runCommands 66 = .ok (.aload_n 0, 1) := dk_42 (dk_at dksX6_runCommands_2 22 rfl rfl)
theorem dX6_runCommands_67 : decode cX6_runCommands 67 = .ok (.getfield 211, 3) := dk_180 0 211 (dk_at dksX6_runCommands_3 0 rfl rfl)
theorem dX6_runCommands_70 : decode cX6_runCommands 70 = .ok (.if_icmp .ge 46, 3) := dk_162 0 46 (dk_at dksX6_runCommands_3 3 rfl rfl)
theorem dX6_runCommands_73 : decode cX6_runCommands 73 = .ok (.aload_n 0, 1) := dk_42 (dk_at dksX6_runCommands_3 6 rfl rfl)
theorem dX6_runCommands_74 : decode cX6_runCommands 74 = .ok (.getfield 32, 3) := dk_180 0 32 (dk_at dksX6_runCommands_3 7 rfl rfl)
theorem dX6_runCommands_77 : decode cX6_runCommands 77 = .ok (.ifCond .ne 39, 3) := dk_154 0 39 (dk_at dksX6_runCommands_3 10 rfl rfl)
theorem dX6_runCommands_80 : decode cX6_runCommands 80 = .ok (.aload_n 0, 1) := dk_42 (dk_at dksX6_runCommands_3 13 rfl rfl)
theorem dX6_runCommands_81 : decode cX6_runCommands 81 = .ok (.invokevirtual 261, 3) := dk_182 1 5 (dk_at dksX6_runCommands_3 14 rfl rfl)
theorem dX6_runCommands_84 : decode cX6_runCommands 84 = .ok (.istore_n 2, 1) := dk_61 (dk_at dksX6_runCommands_3 17 rfl rfl)
theorem dX6_runCommands_85 : decode cX6_runCommands 85 = .ok (.aload_n 0, 1) := dk_42 (dk_at dksX6_runCommands_3 18 rfl rfl)
theorem dX6_runCommands_86 : decode cX6_runCommands 86 = .ok (.invokevirtual 264, 3) := dk_182 1 8 (dk_at dksX6_runCommands_3 19 rfl rfl)
theorem dX6_runCommands_89 : decode cX6_runCommands 89 = .ok (.istore_n 3, 1) := dk_62 (dk_at dksX6_runCommands_3 22 rfl rfl)
theorem dX6_runCommands_90 : decode cX6_runCommands 90 = .ok (.iload_n 1, 1) := dk_27 (dk_at dksX6_runCommands_3 23 rfl rfl)
theorem dX6_runCommands_91 : decode cX6_runCommands 91 = .ok (.iload_n 2, 1) := dk_28 (dk_at dksX6_runCommands_4 0 rfl rfl)
theorem dX6_runCommands_92 : decode cX6_runCommands 92 = .ok (.ifCond .eq 14, 3) := dk_153 0 14 (dk_at dksX6_runCommands_4 1 rfl rfl)
theorem dX6_runCommands_95 : decode cX6_runCommands 95 = .ok (.aload_n 0, 1) := dk_42 (dk_at dksX6_runCommands_4 4 rfl rfl)
theorem dX6_runCommands_96 : decode cX6_runCommands 96 = .ok (.getfield 32, 3) := dk_180 0 32 (dk_at dksX6_runCommands_4 5 rfl rfl)
theorem dX6_runCommands_99 : decode cX6_runCommands 99 = .ok (.ifCond .ne 7, 3) := dk_154 0 7 (dk_at dksX6_runCommands_4 8 rfl rfl)
theorem dX6_runCommands_102 : decode cX6_runCommands 102 = .ok (.iconst 1, 1) := dk_4 (dk_at dksX6_runCommands_4 11 rfl rfl)
theorem dX6_runCommands_103 : decode cX6_runCommands 103 = .ok (.goto 4, 3) := dk_167 0 4 (dk_at dksX6_runCommands_4 12 rfl rfl)
theorem dX6_runCommands_106 : decode cX6_runCommands 106 = .ok (.iconst 0, 1) := dk_3 (dk_at dksX6_runCommands_4 15 rfl rfl)
theorem dX6_runCommands_107 : decode cX6_runCommands 107 = .ok (.iadd, 1) := dk_96 (dk_at dksX6_runCommands_4 16 rfl rfl)
theorem dX6_runCommands_108 : decode cX6_runCommands 108 = .ok (.istore_n 1, 1) := dk_60 (dk_at dksX6_runCommands_4 17 rfl rfl)
theorem dX6_runCommands_109 : decode cX6_runCommands 109 = .ok (.aload_n 0, 1) := dk_42 (dk_at dksX6_runCommands_4 18 rfl rfl)
theorem dX6_runCommands_110 : decode cX6_runCommands 110 = .ok (.invokevirtual 251, 3) := dk_182 0 251 (dk_at dksX6_runCommands_4 19 rfl rfl)
theorem dX6_runCommands_113 : decode cX6_runCommands 113 = .ok (.goto (-51), 3) := dk_167 255 205 (dk_at dksX6_runCommands_5 0 rfl rfl)
theorem dX6_runCommands_116 : decode cX6_runCommands 116 = .ok (.aload_n 0, 1) := dk_42 (dk_at dksX6_runCommands_5 3 rfl rfl)
theorem dX6_runCommands_117 : decode cX6_runCommands 117 = .ok (.iconst 0, 1) := dk_3 (dk_at dksX6_runCommands_5 4 rfl rfl)
theorem dX6_runCommands_118 : decode cX6_runCommands 118 = .ok (.putfield 32, 3) := dk_181 0 32 (dk_at dksX6_runCommands_5 5 rfl rfl)
theorem dX6_runCommands_121 : decode cX6_runCommands 121 = .ok (.aload_n 0, 1) := dk_42 (dk_at dksX6_runCommands_5 8 rfl rfl)
theorem dX6_runCommands_122 : decode cX6_runCommands 122 = .ok (.iload_n 1, 1) := dk_27 (dk_at dksX6_runCommands_5 9 rfl rfl)
theorem dX6_runCommands_123 : decode cX6_runCommands 123 = .ok (.invokevirtual 148, 3) := dk_182 0 148 (dk_at dksX6_runCommands_5 10 rfl rfl)
theorem dX6_runCommands_126 : decode cX6_runCommands 126 = .ok (.ireturn, 1) := dk_172 (dk_at dksX6_runCommands_5 13 rfl rfl)
/-! PageGardenModel.runCommands()I -/
abbrev M_X6_runCommands (z0 n0 : Nat) (s' : gS) : gM := (RX6, cX6_runCommands, 4, (some FieldType.int), "runCommands", [], 9, z0, n0, s'.2.1, s'.2.2)
abbrev W_X6_runCommands (E : gE) (z0 n0 : Nat) (r : Int32) (s' : gS) (pc : Nat) (L : List (Nat × gV)) (st : List gV) (s : gS) : Prop := gW E (M_X6_runCommands z0 n0 s') (gQm E (M_X6_runCommands z0 n0 s') (.inl (some (vI r))) s') pc L st s
noncomputable def f_X6_runCommands_107 (κ : gK) (F : Nat) (k62 : Option Nat → Int32 → gS → Option (Int32 × gS)) (l0 : Option Nat) (t0 : Int32) (t1 : Int32) (s : gS) : Option (Int32 × gS) :=
  gB1 (gck s l0 9) fun _ =>
  gB2 (f_X6_spaces κ F l0  s) fun v2 s1 =>
  k62 l0 (t0 + t1) s1
set_option maxHeartbeats 4000000 in
theorem w_X6_runCommands_107 {E : gE} {F z0 n0 : Nat} {r : Int32} {s' : gS} {k62 : Option Nat → Int32 → gS → Option (Int32 × gS)} (hk62 : ∀ (l0 : Option Nat) (l1 : Int32) (s : gS), k62 l0 l1 s = some (r, s') → W_X6_runCommands E z0 n0 r s' 62 [(0, vR l0), (1, vI l1)] [] s) : ∀ (l0 : Option Nat) (t0 : Int32) (t1 : Int32) (s : gS), f_X6_runCommands_107 (gk E) F k62 l0 t0 t1 s = some (r, s') → W_X6_runCommands E z0 n0 r s' 107 [(0, vR l0)] [vI t1, vI t0] s := by
  intro l0 t0 t1 s hB
  unfold f_X6_runCommands_107 at hB
  refine gw_iadd dX6_runCommands_107 ?_
  refine gw_istore_n (L' := [(1, vI (t0 + t1)), (0, vR l0)]) (Nat.le_of_ble_eq_true rfl) rfl dX6_runCommands_108 ?_
  refine gw_aload_n 1 rfl dX6_runCommands_109 ?_
  obtain ⟨u0, hu3, hB⟩ := gB1_some hB
  obtain ⟨v2, s1, hv2, hB⟩ := gB2_some hB
  refine gw_callV (y := yX6_spaces) (lw_V q3050 q3052 qs99 q143 q3053) hdV_X6_spaces gcl9 hu3 (As := []) (rest := []) (m_X6_spaces _ _ _ _ hv2) (Nat.le_of_ble_eq_true rfl) (Nat.le_of_ble_eq_true rfl) rfl (Nat.le_of_ble_eq_true rfl) dX6_runCommands_110 (gCont_v ?_)
  refine gw_goto (tgt := 62) dX6_runCommands_113 (by decide) ?_
  exact gw_sub [1, 0] rfl (hk62 _ _ _ hB)
noncomputable def f_X6_runCommands_106 (κ : gK) (F : Nat) (k62 : Option Nat → Int32 → gS → Option (Int32 × gS)) (l0 : Option Nat) (t0 : Int32) (s : gS) : Option (Int32 × gS) :=
  f_X6_runCommands_107 κ F k62 l0 t0 (0 : Int32) s
set_option maxHeartbeats 4000000 in
theorem w_X6_runCommands_106 {E : gE} {F z0 n0 : Nat} {r : Int32} {s' : gS} {k62 : Option Nat → Int32 → gS → Option (Int32 × gS)} (hk62 : ∀ (l0 : Option Nat) (l1 : Int32) (s : gS), k62 l0 l1 s = some (r, s') → W_X6_runCommands E z0 n0 r s' 62 [(0, vR l0), (1, vI l1)] [] s) : ∀ (l0 : Option Nat) (t0 : Int32) (s : gS), f_X6_runCommands_106 (gk E) F k62 l0 t0 s = some (r, s') → W_X6_runCommands E z0 n0 r s' 106 [(0, vR l0)] [vI t0] s := by
  intro l0 t0 s hB
  unfold f_X6_runCommands_106 at hB
  refine gw_iconst (v := (0 : Int32)) (by decide) dX6_runCommands_106 ?_
  exact gw_sub [0] rfl (w_X6_runCommands_107 hk62 _ _ _ _ hB)
noncomputable def f_X6_runCommands_116 (κ : gK) (F : Nat)  (l0 : Option Nat) (l1 : Int32) (s : gS) : Option (Int32 × gS) :=
  gB1 (gpf κ s l0 9 7 (.int (0 : Int32))) fun s1 =>
  gB1 (gck s1 l0 9) fun _ =>
  gB2 (f_X6_ends κ F l0 l1 s1) fun v3 s2 =>
  some (v3, s2)
set_option maxHeartbeats 4000000 in
theorem w_X6_runCommands_116 {E : gE} {F z0 n0 : Nat} {r : Int32} {s' : gS}   : ∀ (l0 : Option Nat) (l1 : Int32)  (s : gS), f_X6_runCommands_116 (gk E) F  l0 l1 s = some (r, s') → W_X6_runCommands E z0 n0 r s' 116 [(0, vR l0), (1, vI l1)] [] s := by
  intro l0 l1 s hB
  unfold f_X6_runCommands_116 at hB
  refine gw_aload_n 0 rfl dX6_runCommands_116 ?_
  refine gw_iconst (v := (0 : Int32)) (by decide) dX6_runCommands_117 ?_
  obtain ⟨s1, hs1, hB⟩ := gB1_some hB
  refine gw_putf (C := RX6) (T := TX6) (N := 13) (k := 7) tyX6 tyX6_ok nmX6 gcl9 (by decide) in_X6 q2701 rfl (tyX6_ok 7 (by decide)) (gNF_i _) hs1 dX6_runCommands_118 ?_
  refine gw_aload_n 0 rfl dX6_runCommands_121 ?_
  refine gw_iload_n 1 rfl dX6_runCommands_122 ?_
  obtain ⟨u0, hu4, hB⟩ := gB1_some hB
  obtain ⟨v3, s2, hv3, hB⟩ := gB2_some hB
  refine gw_callV (y := yX6_ends) (lw_V q2765 q2767 qs52 q143 q2768) hdV_X6_ends gcl9 hu4 (As := [vI l1]) (rest := []) (m_X6_ends _ _ _ _ _ hv3) (Nat.le_of_ble_eq_true rfl) (Nat.le_of_ble_eq_true rfl) rfl (Nat.le_of_ble_eq_true rfl) dX6_runCommands_123 (gCont_i ?_)
  obtain ⟨rfl, rfl⟩ := Prod.mk.inj (Option.some.inj hB)
  exact gw_iret rfl rfl rfl dX6_runCommands_126
noncomputable def f_X6_runCommands_62b (κ : gK) (F : Nat) (k62 : Option Nat → Int32 → gS → Option (Int32 × gS)) (l0 : Option Nat) (l1 : Int32) (s : gS) : Option (Int32 × gS) :=
  gB1 (gfI s l0 9 9) fun v1 =>
  gB1 (gfI s l0 9 5) fun v2 =>
  if v2 ≤ v1 then
    f_X6_runCommands_116 κ F  l0 l1 s
  else
    gB1 (gfI s l0 9 7) fun v3 =>
    if v3 = 0 then
      gB1 (gck s l0 9) fun _ =>
      gB2 (f_X6_readCommand κ F l0  s) fun v5 s4 =>
      gB1 (gck s4 l0 9) fun _ =>
      gB2 (f_X6_does κ F l0  s4) fun v8 s7 =>
      if v5 = 0 then
        f_X6_runCommands_106 κ F k62 l0 l1 s7
      else
        gB1 (gfI s7 l0 9 7) fun v10 =>
        if v10 = 0 then
          f_X6_runCommands_107 κ F k62 l0 l1 (1 : Int32) s7
        else
          f_X6_runCommands_106 κ F k62 l0 l1 s7
    else
      f_X6_runCommands_116 κ F  l0 l1 s
noncomputable def f_X6_runCommands_62 (κ : gK) (F : Nat)  : Nat → Option Nat → Int32 → gS → Option (Int32 × gS)
  | 0 => fun _ _ _ => none
  | n + 1 => f_X6_runCommands_62b κ F  (f_X6_runCommands_62 κ F  n)
set_option maxHeartbeats 4000000 in
theorem w_X6_runCommands_62b {E : gE} {F z0 n0 : Nat} {r : Int32} {s' : gS} {k62 : Option Nat → Int32 → gS → Option (Int32 × gS)} (hk62 : ∀ (l0 : Option Nat) (l1 : Int32) (s : gS), k62 l0 l1 s = some (r, s') → W_X6_runCommands E z0 n0 r s' 62 [(0, vR l0), (1, vI l1)] [] s) : ∀ (l0 : Option Nat) (l1 : Int32)  (s : gS), f_X6_runCommands_62b (gk E) F k62 l0 l1 s = some (r, s') → W_X6_runCommands E z0 n0 r s' 62 [(0, vR l0), (1, vI l1)] [] s := by
  intro l0 l1 s hB
  unfold f_X6_runCommands_62b at hB
  refine gw_aload_n 0 rfl dX6_runCommands_62 ?_
  obtain ⟨v1, hv1, hB⟩ := gB1_some hB
  refine gw_getf (C := RX6) (T := TX6) (N := 13) (k := 9) gcl9 (by decide) in_X6 q2703 (gfI_spec hv1) dX6_runCommands_63 ?_
  refine gw_aload_n 0 rfl dX6_runCommands_66 ?_
  obtain ⟨v2, hv2, hB⟩ := gB1_some hB
  refine gw_getf (C := RX6) (T := TX6) (N := 13) (k := 5) gcl9 (by decide) in_X6 q2699 (gfI_spec hv2) dX6_runCommands_67 ?_
  refine gw_icmp_ge (tgt := 116) dX6_runCommands_70 (by decide) (fun hcnd => ?_) (fun hcnd => ?_)
  · rw [if_pos hcnd] at hB
    exact gw_sub [0, 1] rfl (w_X6_runCommands_116  _ _ _ hB)
  · rw [if_neg hcnd] at hB
    refine gw_aload_n 0 rfl dX6_runCommands_73 ?_
    obtain ⟨v3, hv3, hB⟩ := gB1_some hB
    refine gw_getf (C := RX6) (T := TX6) (N := 13) (k := 7) gcl9 (by decide) in_X6 q2701 (gfI_spec hv3) dX6_runCommands_74 ?_
    refine gw_if_ne (tgt := 116) dX6_runCommands_77 (by decide) (fun hcnd => ?_) (fun hcnd => ?_)
    · rw [if_neg hcnd] at hB
      exact gw_sub [0, 1] rfl (w_X6_runCommands_116  _ _ _ hB)
    · rw [if_pos hcnd] at hB
      refine gw_aload_n 0 rfl dX6_runCommands_80 ?_
      obtain ⟨u0, hu6, hB⟩ := gB1_some hB
      obtain ⟨v5, s4, hv5, hB⟩ := gB2_some hB
      refine gw_callV (y := yX6_readCommand) (lw_V q3058 q3060 qs101 q143 q3061) hdV_X6_readCommand gcl9 hu6 (As := []) (rest := []) (m_X6_readCommand _ _ _ _ hv5) (Nat.le_of_ble_eq_true rfl) (Nat.le_of_ble_eq_true rfl) rfl (Nat.le_of_ble_eq_true rfl) dX6_runCommands_81 (gCont_i ?_)
      refine gw_istore_n (L' := [(2, vI v5), (0, vR l0), (1, vI l1)]) (Nat.le_of_ble_eq_true rfl) rfl dX6_runCommands_84 ?_
      refine gw_aload_n 1 rfl dX6_runCommands_85 ?_
      obtain ⟨u0, hu9, hB⟩ := gB1_some hB
      obtain ⟨v8, s7, hv8, hB⟩ := gB2_some hB
      refine gw_callV (y := yX6_does) (lw_V q3082 q3084 qs104 q143 q3085) hdV_X6_does gcl9 hu9 (As := []) (rest := []) (m_X6_does _ _ _ _ hv8) (Nat.le_of_ble_eq_true rfl) (Nat.le_of_ble_eq_true rfl) rfl (Nat.le_of_ble_eq_true rfl) dX6_runCommands_86 (gCont_i ?_)
      refine gw_istore_n (L' := [(3, vI v8), (2, vI v5), (0, vR l0), (1, vI l1)]) (Nat.le_of_ble_eq_true rfl) rfl dX6_runCommands_89 ?_
      refine gw_iload_n 3 rfl dX6_runCommands_90 ?_
      refine gw_iload_n 1 rfl dX6_runCommands_91 ?_
      refine gw_if_eq (tgt := 106) dX6_runCommands_92 (by decide) (fun hcnd => ?_) (fun hcnd => ?_)
      · rw [if_pos hcnd] at hB
        exact gw_sub [2] rfl (w_X6_runCommands_106 hk62 _ _ _ hB)
      · rw [if_neg hcnd] at hB
        refine gw_aload_n 2 rfl dX6_runCommands_95 ?_
        obtain ⟨v10, hv10, hB⟩ := gB1_some hB
        refine gw_getf (C := RX6) (T := TX6) (N := 13) (k := 7) gcl9 (by decide) in_X6 q2701 (gfI_spec hv10) dX6_runCommands_96 ?_
        refine gw_if_ne (tgt := 106) dX6_runCommands_99 (by decide) (fun hcnd => ?_) (fun hcnd => ?_)
        · rw [if_neg hcnd] at hB
          exact gw_sub [2] rfl (w_X6_runCommands_106 hk62 _ _ _ hB)
        · rw [if_pos hcnd] at hB
          refine gw_iconst (v := (1 : Int32)) (by decide) dX6_runCommands_102 ?_
          refine gw_goto (tgt := 107) dX6_runCommands_103 (by decide) ?_
          exact gw_sub [2] rfl (w_X6_runCommands_107 hk62 _ _ _ _ hB)
theorem w_X6_runCommands_62 {E : gE} {F z0 n0 : Nat} {r : Int32} {s' : gS}   : ∀ (n : Nat) (l0 : Option Nat) (l1 : Int32)  (s : gS), f_X6_runCommands_62 (gk E) F  n l0 l1 s = some (r, s') → W_X6_runCommands E z0 n0 r s' 62 [(0, vR l0), (1, vI l1)] [] s := by
  intro n
  induction n with
  | zero => intro l0 l1 s hB; cases hB
  | succ n ih => intro l0 l1 s hB; exact w_X6_runCommands_62b ih l0 l1 s hB
noncomputable def f_X6_runCommands_14b (κ : gK) (F : Nat) (k14 : Option Nat → gS → Option (Int32 × gS)) (l0 : Option Nat) (s : gS) : Option (Int32 × gS) :=
  gB1 (gfI s l0 9 9) fun v1 =>
  gB1 (gfI s l0 9 5) fun v2 =>
  if v2 ≤ v1 then
    gB1 (gck s l0 9) fun _ =>
    gB2 (f_X6_hold κ F l0  s) fun v4 s3 =>
    gB1 (gpf κ s3 l0 9 9 (.int (0 : Int32))) fun s6 =>
    gB1 (gck s6 l0 9) fun _ =>
    gB2 (f_X6_spaces κ F l0  s6) fun v8 s7 =>
    f_X6_runCommands_62 κ F  F l0 (0 : Int32) s7
  else
    gB1 (gck s l0 9) fun _ =>
    gB2 (f_X6_readCommand κ F l0  s) fun v11 s10 =>
    if v11 = 0 then
      gB1 (gfI s10 l0 9 9) fun v16 =>
      some (((-10 : Int32) - v16), s10)
    else
      gB1 (gck s10 l0 9) fun _ =>
      gB2 (f_X6_spaces κ F l0  s10) fun v14 s13 =>
      k14 l0 s13
noncomputable def f_X6_runCommands_14 (κ : gK) (F : Nat)  : Nat → Option Nat → gS → Option (Int32 × gS)
  | 0 => fun _ _ => none
  | n + 1 => f_X6_runCommands_14b κ F  (f_X6_runCommands_14 κ F  n)
set_option maxHeartbeats 4000000 in
theorem w_X6_runCommands_14b {E : gE} {F z0 n0 : Nat} {r : Int32} {s' : gS} {k14 : Option Nat → gS → Option (Int32 × gS)} (hk14 : ∀ (l0 : Option Nat) (s : gS), k14 l0 s = some (r, s') → W_X6_runCommands E z0 n0 r s' 14 [(0, vR l0)] [] s) : ∀ (l0 : Option Nat)  (s : gS), f_X6_runCommands_14b (gk E) F k14 l0 s = some (r, s') → W_X6_runCommands E z0 n0 r s' 14 [(0, vR l0)] [] s := by
  intro l0 s hB
  unfold f_X6_runCommands_14b at hB
  refine gw_aload_n 0 rfl dX6_runCommands_14 ?_
  obtain ⟨v1, hv1, hB⟩ := gB1_some hB
  refine gw_getf (C := RX6) (T := TX6) (N := 13) (k := 9) gcl9 (by decide) in_X6 q2703 (gfI_spec hv1) dX6_runCommands_15 ?_
  refine gw_aload_n 0 rfl dX6_runCommands_18 ?_
  obtain ⟨v2, hv2, hB⟩ := gB1_some hB
  refine gw_getf (C := RX6) (T := TX6) (N := 13) (k := 5) gcl9 (by decide) in_X6 q2699 (gfI_spec hv2) dX6_runCommands_19 ?_
  refine gw_icmp_ge (tgt := 47) dX6_runCommands_22 (by decide) (fun hcnd => ?_) (fun hcnd => ?_)
  · rw [if_pos hcnd] at hB
    refine gw_aload_n 0 rfl dX6_runCommands_47 ?_
    obtain ⟨u0, hu5, hB⟩ := gB1_some hB
    obtain ⟨v4, s3, hv4, hB⟩ := gB2_some hB
    refine gw_callV (y := yX6_hold) (lw_V q2742 q2744 qs47 q143 q2745) hdV_X6_hold gcl9 hu5 (As := []) (rest := []) (m_X6_hold _ _ _ _ hv4) (Nat.le_of_ble_eq_true rfl) (Nat.le_of_ble_eq_true rfl) rfl (Nat.le_of_ble_eq_true rfl) dX6_runCommands_48 (gCont_v ?_)
    refine gw_aload_n 0 rfl dX6_runCommands_51 ?_
    refine gw_iconst (v := (0 : Int32)) (by decide) dX6_runCommands_52 ?_
    obtain ⟨s6, hs6, hB⟩ := gB1_some hB
    refine gw_putf (C := RX6) (T := TX6) (N := 13) (k := 9) tyX6 tyX6_ok nmX6 gcl9 (by decide) in_X6 q2703 rfl (tyX6_ok 9 (by decide)) (gNF_i _) hs6 dX6_runCommands_53 ?_
    refine gw_iconst (v := (0 : Int32)) (by decide) dX6_runCommands_56 ?_
    refine gw_istore_n (L' := [(1, vI (0 : Int32)), (0, vR l0)]) (Nat.le_of_ble_eq_true rfl) rfl dX6_runCommands_57 ?_
    refine gw_aload_n 1 rfl dX6_runCommands_58 ?_
    obtain ⟨u0, hu9, hB⟩ := gB1_some hB
    obtain ⟨v8, s7, hv8, hB⟩ := gB2_some hB
    refine gw_callV (y := yX6_spaces) (lw_V q3050 q3052 qs99 q143 q3053) hdV_X6_spaces gcl9 hu9 (As := []) (rest := []) (m_X6_spaces _ _ _ _ hv8) (Nat.le_of_ble_eq_true rfl) (Nat.le_of_ble_eq_true rfl) rfl (Nat.le_of_ble_eq_true rfl) dX6_runCommands_59 (gCont_v ?_)
    exact gw_sub [1, 0] rfl (w_X6_runCommands_62  F _ _ _ hB)
  · rw [if_neg hcnd] at hB
    refine gw_aload_n 0 rfl dX6_runCommands_25 ?_
    obtain ⟨u0, hu12, hB⟩ := gB1_some hB
    obtain ⟨v11, s10, hv11, hB⟩ := gB2_some hB
    refine gw_callV (y := yX6_readCommand) (lw_V q3058 q3060 qs101 q143 q3061) hdV_X6_readCommand gcl9 hu12 (As := []) (rest := []) (m_X6_readCommand _ _ _ _ hv11) (Nat.le_of_ble_eq_true rfl) (Nat.le_of_ble_eq_true rfl) rfl (Nat.le_of_ble_eq_true rfl) dX6_runCommands_26 (gCont_i ?_)
    refine gw_if_ne (tgt := 40) dX6_runCommands_29 (by decide) (fun hcnd => ?_) (fun hcnd => ?_)
    · rw [if_neg hcnd] at hB
      refine gw_aload_n 0 rfl dX6_runCommands_40 ?_
      obtain ⟨u0, hu15, hB⟩ := gB1_some hB
      obtain ⟨v14, s13, hv14, hB⟩ := gB2_some hB
      refine gw_callV (y := yX6_spaces) (lw_V q3050 q3052 qs99 q143 q3053) hdV_X6_spaces gcl9 hu15 (As := []) (rest := []) (m_X6_spaces _ _ _ _ hv14) (Nat.le_of_ble_eq_true rfl) (Nat.le_of_ble_eq_true rfl) rfl (Nat.le_of_ble_eq_true rfl) dX6_runCommands_41 (gCont_v ?_)
      refine gw_goto (tgt := 14) dX6_runCommands_44 (by decide) ?_
      exact gw_sub [0] rfl (hk14 _ _ hB)
    · rw [if_pos hcnd] at hB
      refine gw_bipush (v := (-10 : Int32)) (by decide) dX6_runCommands_32 ?_
      refine gw_aload_n 0 rfl dX6_runCommands_34 ?_
      obtain ⟨v16, hv16, hB⟩ := gB1_some hB
      refine gw_getf (C := RX6) (T := TX6) (N := 13) (k := 9) gcl9 (by decide) in_X6 q2703 (gfI_spec hv16) dX6_runCommands_35 ?_
      refine gw_isub dX6_runCommands_38 ?_
      obtain ⟨rfl, rfl⟩ := Prod.mk.inj (Option.some.inj hB)
      exact gw_iret rfl rfl rfl dX6_runCommands_39
theorem w_X6_runCommands_14 {E : gE} {F z0 n0 : Nat} {r : Int32} {s' : gS}   : ∀ (n : Nat) (l0 : Option Nat)  (s : gS), f_X6_runCommands_14 (gk E) F  n l0 s = some (r, s') → W_X6_runCommands E z0 n0 r s' 14 [(0, vR l0)] [] s := by
  intro n
  induction n with
  | zero => intro l0 s hB; cases hB
  | succ n ih => intro l0 s hB; exact w_X6_runCommands_14b ih l0 s hB
noncomputable def f_X6_runCommands_0 (κ : gK) (F : Nat)  (l0 : Option Nat) (s : gS) : Option (Int32 × gS) :=
  gB1 (gpf κ s l0 9 6 (.int (0 : Int32))) fun s1 =>
  gB1 (gpf κ s1 l0 9 9 (.int (0 : Int32))) fun s2 =>
  gB1 (gck s2 l0 9) fun _ =>
  gB2 (f_X6_spaces κ F l0  s2) fun v4 s3 =>
  f_X6_runCommands_14 κ F  F l0 s3
set_option maxHeartbeats 4000000 in
theorem w_X6_runCommands_0 {E : gE} {F z0 n0 : Nat} {r : Int32} {s' : gS}   : ∀ (l0 : Option Nat)  (s : gS), f_X6_runCommands_0 (gk E) F  l0 s = some (r, s') → W_X6_runCommands E z0 n0 r s' 0 [(0, vR l0)] [] s := by
  intro l0 s hB
  unfold f_X6_runCommands_0 at hB
  refine gw_aload_n 0 rfl dX6_runCommands_0 ?_
  refine gw_iconst (v := (0 : Int32)) (by decide) dX6_runCommands_1 ?_
  obtain ⟨s1, hs1, hB⟩ := gB1_some hB
  refine gw_putf (C := RX6) (T := TX6) (N := 13) (k := 6) tyX6 tyX6_ok nmX6 gcl9 (by decide) in_X6 q2700 rfl (tyX6_ok 6 (by decide)) (gNF_i _) hs1 dX6_runCommands_2 ?_
  refine gw_aload_n 0 rfl dX6_runCommands_5 ?_
  refine gw_iconst (v := (0 : Int32)) (by decide) dX6_runCommands_6 ?_
  obtain ⟨s2, hs2, hB⟩ := gB1_some hB
  refine gw_putf (C := RX6) (T := TX6) (N := 13) (k := 9) tyX6 tyX6_ok nmX6 gcl9 (by decide) in_X6 q2703 rfl (tyX6_ok 9 (by decide)) (gNF_i _) hs2 dX6_runCommands_7 ?_
  refine gw_aload_n 0 rfl dX6_runCommands_10 ?_
  obtain ⟨u0, hu5, hB⟩ := gB1_some hB
  obtain ⟨v4, s3, hv4, hB⟩ := gB2_some hB
  refine gw_callV (y := yX6_spaces) (lw_V q3050 q3052 qs99 q143 q3053) hdV_X6_spaces gcl9 hu5 (As := []) (rest := []) (m_X6_spaces _ _ _ _ hv4) (Nat.le_of_ble_eq_true rfl) (Nat.le_of_ble_eq_true rfl) rfl (Nat.le_of_ble_eq_true rfl) dX6_runCommands_11 (gCont_v ?_)
  exact gw_sub [0] rfl (w_X6_runCommands_14  F _ _ hB)
noncomputable def f_X6_runCommands (κ : gK) (F : Nat) (a0 : Option Nat) (s : gS) : Option (Int32 × gS) := f_X6_runCommands_0 κ F a0 s
theorem m_X6_runCommands {E : gE} {F : Nat} (a0 : Option Nat) (s : gS) (r : Int32) (s' : gS) (h : f_X6_runCommands (gk E) F a0 s = some (r, s')) : gCT E 9 yX6_runCommands (ws_ yX6_runCommands cX6_runCommands 4 (some FieldType.int)) [vR a0] s (.inl (some (vI r))) s' := by
  refine gCT_of2 (fun h => absurd h (by decide)) (plainFor_of_name (by decide)) (Nat.le_of_ble_eq_true rfl) ?_
  exact gw_sub [0] rfl (w_X6_runCommands_0 _ _ h)
def dkwX6_undo_2 : List UInt8 := [42, 180, 0, 39, 172]
abbrev dktX6_undo_2 : List UInt8 := dkwX6_undo_2 ++ []
def dkwX6_undo_1 : List UInt8 := [100, 181, 0, 39, 42, 180, 0, 16, 17, 1, 214, 42, 180, 0, 39, 104, 42, 180, 0, 7, 3, 184, 0, 35]
abbrev dktX6_undo_1 : List UInt8 := dkwX6_undo_1 ++ dktX6_undo_2
def dkwX6_undo_0 : List UInt8 := [42, 3, 181, 0, 28, 42, 180, 0, 39, 154, 0, 9, 42, 4, 182, 0, 181, 172, 42, 89, 180, 0, 39, 4]
abbrev dktX6_undo_0 : List UInt8 := dkwX6_undo_0 ++ dktX6_undo_1
theorem dksX6_undo_0 : cX6_undo.data.toList.drop 0 = dktX6_undo_0 := by decide +kernel
theorem dksX6_undo_1 : cX6_undo.data.toList.drop 24 = dktX6_undo_1 := dk_seg dksX6_undo_0 24 rfl rfl
theorem dksX6_undo_2 : cX6_undo.data.toList.drop 48 = dktX6_undo_2 := dk_seg dksX6_undo_1 24 rfl rfl
theorem dX6_undo_0 : decode cX6_undo 0 = .ok (.aload_n 0, 1) := dk_42 (dk_at dksX6_undo_0 0 rfl rfl)
theorem dX6_undo_1 : decode cX6_undo 1 = .ok (.iconst 0, 1) := dk_3 (dk_at dksX6_undo_0 1 rfl rfl)
theorem dX6_undo_2 : decode cX6_undo 2 = .ok (.putfield 28, 3) := dk_181 0 28 (dk_at dksX6_undo_0 2 rfl rfl)
theorem dX6_undo_5 : decode cX6_undo 5 = .ok (.aload_n 0, 1) := dk_42 (dk_at dksX6_undo_0 5 rfl rfl)
theorem dX6_undo_6 : decode cX6_undo 6 = .ok (.getfield 39, 3) := dk_180 0 39 (dk_at dksX6_undo_0 6 rfl rfl)
theorem dX6_undo_9 : decode cX6_undo 9 = .ok (.ifCond .ne 9, 3) := dk_154 0 9 (dk_at dksX6_undo_0 9 rfl rfl)
theorem dX6_undo_12 : decode cX6_undo 12 = .ok (.aload_n 0, 1) := dk_42 (dk_at dksX6_undo_0 12 rfl rfl)
theorem dX6_undo_13 : decode cX6_undo 13 = .ok (.iconst 1, 1) := dk_4 (dk_at dksX6_undo_0 13 rfl rfl)
theorem dX6_undo_14 : decode cX6_undo 14 = .ok (.invokevirtual 181, 3) := dk_182 0 181 (dk_at dksX6_undo_0 14 rfl rfl)
theorem dX6_undo_17 : decode cX6_undo 17 = .ok (.ireturn, 1) := dk_172 (dk_at dksX6_undo_0 17 rfl rfl)
theorem dX6_undo_18 : decode cX6_undo 18 = .ok (.aload_n 0, 1) := dk_42 (dk_at dksX6_undo_0 18 rfl rfl)
theorem dX6_undo_19 : decode cX6_undo 19 = .ok (.dup, 1) := dk_89 (dk_at dksX6_undo_0 19 rfl rfl)
theorem dX6_undo_20 : decode cX6_undo 20 = .ok (.getfield 39, 3) := dk_180 0 39 (dk_at dksX6_undo_0 20 rfl rfl)
theorem dX6_undo_23 : decode cX6_undo 23 = .ok (.iconst 1, 1) := dk_4 (dk_at dksX6_undo_0 23 rfl rfl)
theorem dX6_undo_24 : decode cX6_undo 24 = .ok (.isub, 1) := dk_100 (dk_at dksX6_undo_1 0 rfl rfl)
theorem dX6_undo_25 : decode cX6_undo 25 = .ok (.putfield 39, 3) := dk_181 0 39 (dk_at dksX6_undo_1 1 rfl rfl)
theorem dX6_undo_28 : decode cX6_undo 28 = .ok (.aload_n 0, 1) := dk_42 (dk_at dksX6_undo_1 4 rfl rfl)
theorem dX6_undo_29 : decode cX6_undo 29 = .ok (.getfield 16, 3) := dk_180 0 16 (dk_at dksX6_undo_1 5 rfl rfl)
theorem dX6_undo_32 : decode cX6_undo 32 = .ok (.sipush 470, 3) := dk_17 1 214 (dk_at dksX6_undo_1 8 rfl rfl)
theorem dX6_undo_35 : decode cX6_undo 35 = .ok (.aload_n 0, 1) := dk_42 (dk_at dksX6_undo_1 11 rfl rfl)
theorem dX6_undo_36 : decode cX6_undo 36 = .ok (.getfield 39, 3) := dk_180 0 39 (dk_at dksX6_undo_1 12 rfl rfl)
theorem dX6_undo_39 : decode cX6_undo 39 = .ok (.imul, 1) := dk_104 (dk_at dksX6_undo_1 15 rfl rfl)
theorem dX6_undo_40 : decode cX6_undo 40 = .ok (.aload_n 0, 1) := dk_42 (dk_at dksX6_undo_1 16 rfl rfl)
theorem dX6_undo_41 : decode cX6_undo 41 = .ok (.getfield 7, 3) := dk_180 0 7 (dk_at dksX6_undo_1 17 rfl rfl)
theorem dX6_undo_44 : decode cX6_undo 44 = .ok (.iconst 0, 1) := dk_3 (dk_at dksX6_undo_1 20 rfl rfl)
theorem dX6_undo_45 : decode cX6_undo 45 = .ok (.invokestatic 35, 3) := dk_184 0 35 (dk_at dksX6_undo_1 21 rfl rfl)
theorem dX6_undo_48 : decode cX6_undo 48 = .ok (.aload_n 0, 1) := dk_42 (dk_at dksX6_undo_2 0 rfl rfl)
theorem dX6_undo_49 : decode cX6_undo 49 = .ok (.getfield 39, 3) := dk_180 0 39 (dk_at dksX6_undo_2 1 rfl rfl)
theorem dX6_undo_52 : decode cX6_undo 52 = .ok (.ireturn, 1) := dk_172 (dk_at dksX6_undo_2 4 rfl rfl)
/-! PageGardenModel.undo()I -/
abbrev M_X6_undo (z0 n0 : Nat) (s' : gS) : gM := (RX6, cX6_undo, 1, (some FieldType.int), "undo", [], 2, z0, n0, s'.2.1, s'.2.2)
abbrev W_X6_undo (E : gE) (z0 n0 : Nat) (r : Int32) (s' : gS) (pc : Nat) (L : List (Nat × gV)) (st : List gV) (s : gS) : Prop := gW E (M_X6_undo z0 n0 s') (gQm E (M_X6_undo z0 n0 s') (.inl (some (vI r))) s') pc L st s
noncomputable def f_X6_undo_0 (κ : gK) (F : Nat)  (l0 : Option Nat) (s : gS) : Option (Int32 × gS) :=
  gB1 (gpf κ s l0 9 6 (.int (0 : Int32))) fun s1 =>
  gB1 (gfI s1 l0 9 3) fun v2 =>
  if v2 = 0 then
    gB1 (gck s1 l0 9) fun _ =>
    gB2 (f_X6_fails κ F l0 (1 : Int32) s1) fun v12 s11 =>
    some (v12, s11)
  else
    gB1 (gfI s1 l0 9 3) fun v3 =>
    gB1 (gpf κ s1 l0 9 3 (.int (v3 - (1 : Int32)))) fun s4 =>
    gB1 (gfR s4 l0 9 2) fun v5 =>
    gB1 (gfI s4 l0 9 3) fun v6 =>
    gB1 (gfR s4 l0 9 0) fun v7 =>
    gB2 (f_X6_bring κ F v5 ((470 : Int32) * v6) v7 (0 : Int32) s4) fun v9 s8 =>
    gB1 (gfI s8 l0 9 3) fun v10 =>
    some (v10, s8)
set_option maxHeartbeats 4000000 in
theorem w_X6_undo_0 {E : gE} {F z0 n0 : Nat} {r : Int32} {s' : gS}   : ∀ (l0 : Option Nat)  (s : gS), f_X6_undo_0 (gk E) F  l0 s = some (r, s') → W_X6_undo E z0 n0 r s' 0 [(0, vR l0)] [] s := by
  intro l0 s hB
  unfold f_X6_undo_0 at hB
  refine gw_aload_n 0 rfl dX6_undo_0 ?_
  refine gw_iconst (v := (0 : Int32)) (by decide) dX6_undo_1 ?_
  obtain ⟨s1, hs1, hB⟩ := gB1_some hB
  refine gw_putf (C := RX6) (T := TX6) (N := 13) (k := 6) tyX6 tyX6_ok nmX6 gcl9 (by decide) in_X6 q2700 rfl (tyX6_ok 6 (by decide)) (gNF_i _) hs1 dX6_undo_2 ?_
  refine gw_aload_n 0 rfl dX6_undo_5 ?_
  obtain ⟨v2, hv2, hB⟩ := gB1_some hB
  refine gw_getf (C := RX6) (T := TX6) (N := 13) (k := 3) gcl9 (by decide) in_X6 q2697 (gfI_spec hv2) dX6_undo_6 ?_
  refine gw_if_ne (tgt := 18) dX6_undo_9 (by decide) (fun hcnd => ?_) (fun hcnd => ?_)
  · rw [if_neg hcnd] at hB
    refine gw_aload_n 0 rfl dX6_undo_18 ?_
    refine gw_dup rfl dX6_undo_19 ?_
    obtain ⟨v3, hv3, hB⟩ := gB1_some hB
    refine gw_getf (C := RX6) (T := TX6) (N := 13) (k := 3) gcl9 (by decide) in_X6 q2697 (gfI_spec hv3) dX6_undo_20 ?_
    refine gw_iconst (v := (1 : Int32)) (by decide) dX6_undo_23 ?_
    refine gw_isub dX6_undo_24 ?_
    obtain ⟨s4, hs4, hB⟩ := gB1_some hB
    refine gw_putf (C := RX6) (T := TX6) (N := 13) (k := 3) tyX6 tyX6_ok nmX6 gcl9 (by decide) in_X6 q2697 rfl (tyX6_ok 3 (by decide)) (gNF_i _) hs4 dX6_undo_25 ?_
    refine gw_aload_n 0 rfl dX6_undo_28 ?_
    obtain ⟨v5, hv5, hB⟩ := gB1_some hB
    refine gw_getf (C := RX6) (T := TX6) (N := 13) (k := 2) gcl9 (by decide) in_X6 q2696 (gfR_spec hv5) dX6_undo_29 ?_
    refine gw_sipush (v := (470 : Int32)) (by decide) dX6_undo_32 ?_
    refine gw_aload_n 0 rfl dX6_undo_35 ?_
    obtain ⟨v6, hv6, hB⟩ := gB1_some hB
    refine gw_getf (C := RX6) (T := TX6) (N := 13) (k := 3) gcl9 (by decide) in_X6 q2697 (gfI_spec hv6) dX6_undo_36 ?_
    refine gw_imul dX6_undo_39 ?_
    refine gw_aload_n 0 rfl dX6_undo_40 ?_
    obtain ⟨v7, hv7, hB⟩ := gB1_some hB
    refine gw_getf (C := RX6) (T := TX6) (N := 13) (k := 0) gcl9 (by decide) in_X6 q2694 (gfR_spec hv7) dX6_undo_41 ?_
    refine gw_iconst (v := (0 : Int32)) (by decide) dX6_undo_44 ?_
    obtain ⟨v9, s8, hv9, hB⟩ := gB2_some hB
    refine gw_callS (y := yX6_bring) (lw_S q2746 q2747 q143 q2748) hdS_X6_bring (As := [vR v5, vI ((470 : Int32) * v6), vR v7, vI (0 : Int32)]) (rest := []) (m_X6_bring _ _ _ _ _ _ _ hv9) (Nat.le_of_ble_eq_true rfl) (Nat.le_of_ble_eq_true rfl) rfl (Nat.le_of_ble_eq_true rfl) dX6_undo_45 (gCont_v ?_)
    refine gw_aload_n 0 rfl dX6_undo_48 ?_
    obtain ⟨v10, hv10, hB⟩ := gB1_some hB
    refine gw_getf (C := RX6) (T := TX6) (N := 13) (k := 3) gcl9 (by decide) in_X6 q2697 (gfI_spec hv10) dX6_undo_49 ?_
    obtain ⟨rfl, rfl⟩ := Prod.mk.inj (Option.some.inj hB)
    exact gw_iret rfl rfl rfl dX6_undo_52
  · rw [if_pos hcnd] at hB
    refine gw_aload_n 0 rfl dX6_undo_12 ?_
    refine gw_iconst (v := (1 : Int32)) (by decide) dX6_undo_13 ?_
    obtain ⟨u0, hu13, hB⟩ := gB1_some hB
    obtain ⟨v12, s11, hv12, hB⟩ := gB2_some hB
    refine gw_callV (y := yX6_fails) (lw_V q2943 q2945 qs88 q143 q2946) hdV_X6_fails gcl9 hu13 (As := [vI (1 : Int32)]) (rest := []) (m_X6_fails _ _ _ _ _ hv12) (Nat.le_of_ble_eq_true rfl) (Nat.le_of_ble_eq_true rfl) rfl (Nat.le_of_ble_eq_true rfl) dX6_undo_14 (gCont_i ?_)
    obtain ⟨rfl, rfl⟩ := Prod.mk.inj (Option.some.inj hB)
    exact gw_iret rfl rfl rfl dX6_undo_17
noncomputable def f_X6_undo (κ : gK) (F : Nat) (a0 : Option Nat) (s : gS) : Option (Int32 × gS) := f_X6_undo_0 κ F a0 s
theorem m_X6_undo {E : gE} {F : Nat} (a0 : Option Nat) (s : gS) (r : Int32) (s' : gS) (h : f_X6_undo (gk E) F a0 s = some (r, s')) : gCT E 2 yX6_undo (ws_ yX6_undo cX6_undo 1 (some FieldType.int)) [vR a0] s (.inl (some (vI r))) s' := by
  refine gCT_of2 (fun h => absurd h (by decide)) (plainFor_of_name (by decide)) (Nat.le_of_ble_eq_true rfl) ?_
  exact gw_sub [0] rfl (w_X6_undo_0 _ _ h)
def dkwX6_mix_0 : List UInt8 := [42, 20, 1, 11, 42, 180, 1, 13, 105, 27, 133, 97, 181, 1, 13, 177]
abbrev dktX6_mix_0 : List UInt8 := dkwX6_mix_0 ++ []
theorem dksX6_mix_0 : cX6_mix.data.toList.drop 0 = dktX6_mix_0 := by decide +kernel
theorem dX6_mix_0 : decode cX6_mix 0 = .ok (.aload_n 0, 1) := dk_42 (dk_at dksX6_mix_0 0 rfl rfl)
theorem dX6_mix_1 : decode cX6_mix 1 = .ok (.ldc2_w 267, 3) := dk_20 1 11 (dk_at dksX6_mix_0 1 rfl rfl)
theorem dX6_mix_4 : decode cX6_mix 4 = .ok (.aload_n 0, 1) := dk_42 (dk_at dksX6_mix_0 4 rfl rfl)
theorem dX6_mix_5 : decode cX6_mix 5 = .ok (.getfield 269, 3) := dk_180 1 13 (dk_at dksX6_mix_0 5 rfl rfl)
theorem dX6_mix_8 : decode cX6_mix 8 = .ok (.lmul, 1) := dk_105 (dk_at dksX6_mix_0 8 rfl rfl)
theorem dX6_mix_9 : decode cX6_mix 9 = .ok (.iload_n 1, 1) := dk_27 (dk_at dksX6_mix_0 9 rfl rfl)
theorem dX6_mix_10 : decode cX6_mix 10 = .ok (.i2l, 1) := dk_133 (dk_at dksX6_mix_0 10 rfl rfl)
theorem dX6_mix_11 : decode cX6_mix 11 = .ok (.ladd, 1) := dk_97 (dk_at dksX6_mix_0 11 rfl rfl)
theorem dX6_mix_12 : decode cX6_mix 12 = .ok (.putfield 269, 3) := dk_181 1 13 (dk_at dksX6_mix_0 12 rfl rfl)
theorem dX6_mix_15 : decode cX6_mix 15 = .ok (.return_, 1) := dk_177 (dk_at dksX6_mix_0 15 rfl rfl)
/-! PageGardenModel.mix(I)V -/
abbrev M_X6_mix (z0 n0 : Nat) (s' : gS) : gM := (RX6, cX6_mix, 2, none, "mix", [], 1, z0, n0, s'.2.1, s'.2.2)
abbrev W_X6_mix (E : gE) (z0 n0 : Nat) (r : Unit) (s' : gS) (pc : Nat) (L : List (Nat × gV)) (st : List gV) (s : gS) : Prop := gW E (M_X6_mix z0 n0 s') (gQm E (M_X6_mix z0 n0 s') (.inl none) s') pc L st s
noncomputable def f_X6_mix_0 (κ : gK) (F : Nat)  (l0 : Option Nat) (l1 : Int32) (s : gS) : Option (Unit × gS) :=
  gB1 (gfJ s l0 9 12) fun v1 =>
  gB1 (gpf κ s l0 9 12 (.long (((31 : Int64) * v1) + (l1.toInt64)))) fun s2 =>
  some ((), s2)
set_option maxHeartbeats 4000000 in
theorem w_X6_mix_0 {E : gE} {F z0 n0 : Nat} {r : Unit} {s' : gS}   : ∀ (l0 : Option Nat) (l1 : Int32)  (s : gS), f_X6_mix_0 (gk E) F  l0 l1 s = some (r, s') → W_X6_mix E z0 n0 r s' 0 [(0, vR l0), (1, vI l1)] [] s := by
  intro l0 l1 s hB
  unfold f_X6_mix_0 at hB
  refine gw_aload_n 0 rfl dX6_mix_0 ?_
  refine gw_ldc2 (31 : Int64) q3099 dX6_mix_1 ?_
  refine gw_aload_n 0 rfl dX6_mix_4 ?_
  obtain ⟨v1, hv1, hB⟩ := gB1_some hB
  refine gw_getf (C := RX6) (T := TX6) (N := 13) (k := 12) gcl9 (by decide) in_X6 q2706 (gfJ_spec hv1) dX6_mix_5 ?_
  refine gw_lmul dX6_mix_8 ?_
  refine gw_iload_n 1 rfl dX6_mix_9 ?_
  refine gw_i2l dX6_mix_10 ?_
  refine gw_ladd dX6_mix_11 ?_
  obtain ⟨s2, hs2, hB⟩ := gB1_some hB
  refine gw_putf (C := RX6) (T := TX6) (N := 13) (k := 12) tyX6 tyX6_ok nmX6 gcl9 (by decide) in_X6 q2706 rfl (tyX6_ok 12 (by decide)) (gNF_j _) hs2 dX6_mix_12 ?_
  obtain ⟨rfl, rfl⟩ := Prod.mk.inj (Option.some.inj hB)
  exact gw_vret rfl rfl rfl dX6_mix_15
noncomputable def f_X6_mix (κ : gK) (F : Nat) (a0 : Option Nat) (a1 : Int32) (s : gS) : Option (Unit × gS) := f_X6_mix_0 κ F a0 a1 s
theorem m_X6_mix {E : gE} {F : Nat} (a0 : Option Nat) (a1 : Int32) (s : gS) (r : Unit) (s' : gS) (h : f_X6_mix (gk E) F a0 a1 s = some (r, s')) : gCT E 1 yX6_mix (ws_ yX6_mix cX6_mix 2 none) [vR a0, vI a1] s (.inl none) s' := by
  refine gCT_of2 (fun h => absurd h (by decide)) (plainFor_of_name (by decide)) (Nat.le_of_ble_eq_true rfl) ?_
  exact gw_sub [0, 1] rfl (w_X6_mix_0 _ _ _ h)
def dkwX6_mixRest_5 : List UInt8 := [182, 0, 139, 182, 1, 17, 132, 1, 1, 167, 255, 222, 177]
abbrev dktX6_mixRest_5 : List UInt8 := dkwX6_mixRest_5 ++ []
def dkwX6_mixRest_4 : List UInt8 := [16, 100, 162, 0, 34, 42, 180, 0, 7, 17, 1, 210, 46, 4, 160, 0, 22, 42, 42, 42, 182, 0, 93, 27]
abbrev dktX6_mixRest_4 : List UInt8 := dkwX6_mixRest_4 ++ dktX6_mixRest_5
def dkwX6_mixRest_3 : List UInt8 := [132, 2, 1, 167, 255, 238, 132, 1, 1, 167, 255, 218, 42, 42, 182, 0, 217, 182, 1, 17, 3, 60, 27]
abbrev dktX6_mixRest_3 : List UInt8 := dkwX6_mixRest_3 ++ dktX6_mixRest_4
def dkwX6_mixRest_2 : List UInt8 := [182, 0, 187, 162, 0, 32, 3, 61, 28, 7, 162, 0, 19, 42, 42, 27, 28, 182, 0, 190, 182, 1, 17]
abbrev dktX6_mixRest_2 : List UInt8 := dkwX6_mixRest_2 ++ dktX6_mixRest_3
def dkwX6_mixRest_1 : List UInt8 := [182, 1, 17, 132, 2, 1, 167, 255, 237, 132, 1, 1, 167, 255, 223, 3, 60, 27, 42, 42, 182, 0, 90]
abbrev dktX6_mixRest_1 : List UInt8 := dkwX6_mixRest_1 ++ dktX6_mixRest_2
def dkwX6_mixRest_0 : List UInt8 := [3, 60, 27, 16, 32, 162, 0, 33, 3, 61, 28, 16, 6, 162, 0, 19, 42, 42, 27, 28, 182, 0, 199]
abbrev dktX6_mixRest_0 : List UInt8 := dkwX6_mixRest_0 ++ dktX6_mixRest_1
theorem dksX6_mixRest_0 : cX6_mixRest.data.toList.drop 0 = dktX6_mixRest_0 := by decide +kernel
theorem dksX6_mixRest_1 : cX6_mixRest.data.toList.drop 23 = dktX6_mixRest_1 := dk_seg dksX6_mixRest_0 23 rfl rfl
theorem dksX6_mixRest_2 : cX6_mixRest.data.toList.drop 46 = dktX6_mixRest_2 := dk_seg dksX6_mixRest_1 23 rfl rfl
theorem dksX6_mixRest_3 : cX6_mixRest.data.toList.drop 69 = dktX6_mixRest_3 := dk_seg dksX6_mixRest_2 23 rfl rfl
theorem dksX6_mixRest_4 : cX6_mixRest.data.toList.drop 92 = dktX6_mixRest_4 := dk_seg dksX6_mixRest_3 23 rfl rfl
theorem dksX6_mixRest_5 : cX6_mixRest.data.toList.drop 116 = dktX6_mixRest_5 := dk_seg dksX6_mixRest_4 24 rfl rfl
theorem dX6_mixRest_0 : decode cX6_mixRest 0 = .ok (.iconst 0, 1) := dk_3 (dk_at dksX6_mixRest_0 0 rfl rfl)
theorem dX6_mixRest_1 : decode cX6_mixRest 1 = .ok (.istore_n 1, 1) := dk_60 (dk_at dksX6_mixRest_0 1 rfl rfl)
theorem dX6_mixRest_2 : decode cX6_mixRest 2 = .ok (.iload_n 1, 1) := dk_27 (dk_at dksX6_mixRest_0 2 rfl rfl)
theorem dX6_mixRest_3 : decode cX6_mixRest 3 = .ok (.bipush 32, 2) := dk_16 32 (dk_at dksX6_mixRest_0 3 rfl rfl)
theorem dX6_mixRest_5 : decode cX6_mixRest 5 = .ok (.if_icmp .ge 33, 3) := dk_162 0 33 (dk_at dksX6_mixRest_0 5 rfl rfl)
theorem dX6_mixRest_8 : decode cX6_mixRest 8 = .ok (.iconst 0, 1) := dk_3 (dk_at dksX6_mixRest_0 8 rfl rfl)
theorem dX6_mixRest_9 : decode cX6_mixRest 9 = .ok (.istore_n 2, 1) := dk_61 (dk_at dksX6_mixRest_0 9 rfl rfl)
theorem dX6_mixRest_10 : decode cX6_mixRest 10 = .ok (.iload_n 2, 1) := dk_28 (dk_at dksX6_mixRest_0 10 rfl rfl)
theorem dX6_mixRest_11 : decode cX6_mixRest 11 = .ok (.bipush 6, 2) := dk_16 6 (dk_at dksX6_mixRest_0 11 rfl rfl)
theorem dX6_mixRest_13 : decode cX6_mixRest 13 = .ok (.if_icmp .ge 19, 3) := dk_162 0 19 (dk_at dksX6_mixRest_0 13 rfl rfl)
theorem dX6_mixRest_16 : decode cX6_mixRest 16 = .ok (.aload_n 0, 1) := dk_42 (dk_at dksX6_mixRest_0 16 rfl rfl)
theorem dX6_mixRest_17 : decode cX6_mixRest 17 = .ok (.aload_n 0, 1) := dk_42 (dk_at dksX6_mixRest_0 17 rfl rfl)
theorem dX6_mixRest_18 : decode cX6_mixRest 18 = .ok (.iload_n 1, 1) := dk_27 (dk_at dksX6_mixRest_0 18 rfl rfl)
theorem dX6_mixRest_19 : decode cX6_mixRest 19 = .ok (.iload_n 2, 1) := dk_28 (dk_at dksX6_mixRest_0 19 rfl rfl)
theorem dX6_mixRest_20 : decode cX6_mixRest 20 = .ok (.invokevirtual 199, 3) := dk_182 0 199 (dk_at dksX6_mixRest_0 20 rfl rfl)
theorem dX6_mixRest_23 : decode cX6_mixRest 23 = .ok (.invokevirtual 273, 3) := dk_182 1 17 (dk_at dksX6_mixRest_1 0 rfl rfl)
theorem dX6_mixRest_26 : decode cX6_mixRest 26 = .ok (.iinc 2 1, 3) := dk_132 2 1 (dk_at dksX6_mixRest_1 3 rfl rfl)
theorem dX6_mixRest_29 : decode cX6_mixRest 29 = .ok (.goto (-19), 3) := dk_167 255 237 (dk_at dksX6_mixRest_1 6 rfl rfl)
theorem dX6_mixRest_32 : decode cX6_mixRest 32 = .ok (.iinc 1 1, 3) := dk_132 1 1 (dk_at dksX6_mixRest_1 9 rfl rfl)
theorem dX6_mixRest_35 : decode cX6_mixRest 35 = .ok (.goto (-33), 3) := dk_167 255 223 (dk_at dksX6_mixRest_1 12 rfl rfl)
theorem dX6_mixRest_38 : decode cX6_mixRest 38 = .ok (.iconst 0, 1) := dk_3 (dk_at dksX6_mixRest_1 15 rfl rfl)
theorem dX6_mixRest_39 : decode cX6_mixRest 39 = .ok (.istore_n 1, 1) := dk_60 (dk_at dksX6_mixRest_1 16 rfl rfl)
theorem dX6_mixRest_40 : decode cX6_mixRest 40 = .ok (.iload_n 1, 1) := dk_27 (dk_at dksX6_mixRest_1 17 rfl rfl)
theorem dX6_mixRest_41 : decode cX6_mixRest 41 = .ok (.aload_n 0, 1) := dk_42 (dk_at dksX6_mixRest_1 18 rfl rfl)
theorem dX6_mixRest_42 : decode cX6_mixRest 42 = .ok (.aload_n 0, 1) := dk_42 (dk_at dksX6_mixRest_1 19 rfl rfl)
theorem dX6_mixRest_43 : decode cX6_mixRest 43 = .ok (.invokevirtual 90, 3) := dk_182 0 90 (dk_at dksX6_mixRest_1 20 rfl rfl)
theorem dX6_mixRest_46 : decode cX6_mixRest 46 = .ok (.invokevirtual 187, 3) := dk_182 0 187 (dk_at dksX6_mixRest_2 0 rfl rfl)
theorem dX6_mixRest_49 : decode cX6_mixRest 49 = .ok (.if_icmp .ge 32, 3) := dk_162 0 32 (dk_at dksX6_mixRest_2 3 rfl rfl)
theorem dX6_mixRest_52 : decode cX6_mixRest 52 = .ok (.iconst 0, 1) := dk_3 (dk_at dksX6_mixRest_2 6 rfl rfl)
theorem dX6_mixRest_53 : decode cX6_mixRest 53 = .ok (.istore_n 2, 1) := dk_61 (dk_at dksX6_mixRest_2 7 rfl rfl)
theorem dX6_mixRest_54 : decode cX6_mixRest 54 = .ok (.iload_n 2, 1) := dk_28 (dk_at dksX6_mixRest_2 8 rfl rfl)
theorem dX6_mixRest_55 : decode cX6_mixRest 55 = .ok (.iconst 4, 1) := dk_7 (dk_at dksX6_mixRest_2 9 rfl rfl)
theorem dX6_mixRest_56 : decode cX6_mixRest 56 = .ok (.if_icmp .ge 19, 3) := dk_162 0 19 (dk_at dksX6_mixRest_2 10 rfl rfl)
theorem dX6_mixRest_59 : decode cX6_mixRest 59 = .ok (.aload_n 0, 1) := dk_42 (dk_at dksX6_mixRest_2 13 rfl rfl)
theorem dX6_mixRest_60 : decode cX6_mixRest 60 = .ok (.aload_n 0, 1) := dk_42 (dk_at dksX6_mixRest_2 14 rfl rfl)
theorem dX6_mixRest_61 : decode cX6_mixRest 61 = .ok (.iload_n 1, 1) := dk_27 (dk_at dksX6_mixRest_2 15 rfl rfl)
theorem dX6_mixRest_62 : decode cX6_mixRest 62 = .ok (.iload_n 2, 1) := dk_28 (dk_at dksX6_mixRest_2 16 rfl rfl)
theorem dX6_mixRest_63 : decode cX6_mixRest 63 = .ok (.invokevirtual 190, 3) := dk_182 0 190 (dk_at dksX6_mixRest_2 17 rfl rfl)
theorem dX6_mixRest_66 : decode cX6_mixRest 66 = .ok (.invokevirtual 273, 3) := dk_182 1 17 (dk_at dksX6_mixRest_2 20 rfl rfl)
theorem dX6_mixRest_69 : decode cX6_mixRest 69 = .ok (.iinc 2 1, 3) := dk_132 2 1 (dk_at dksX6_mixRest_3 0 rfl rfl)
theorem dX6_mixRest_72 : decode cX6_mixRest 72 = .ok (.goto (-18), 3) := dk_167 255 238 (dk_at dksX6_mixRest_3 3 rfl rfl)
theorem dX6_mixRest_75 : decode cX6_mixRest 75 = .ok (.iinc 1 1, 3) := dk_132 1 1 (dk_at dksX6_mixRest_3 6 rfl rfl)
theorem dX6_mixRest_78 : decode cX6_mixRest 78 = .ok (.goto (-38), 3) := dk_167 255 218 (dk_at dksX6_mixRest_3 9 rfl rfl)
theorem dX6_mixRest_81 : decode cX6_mixRest 81 = .ok (.aload_n 0, 1) := dk_42 (dk_at dksX6_mixRest_3 12 rfl rfl)
theorem dX6_mixRest_82 : decode cX6_mixRest 82 = .ok (.aload_n 0, 1) := dk_42 (dk_at dksX6_mixRest_3 13 rfl rfl)
theorem dX6_mixRest_83 : decode cX6_mixRest 83 = .ok (.invokevirtual 217, 3) := dk_182 0 217 (dk_at dksX6_mixRest_3 14 rfl rfl)
theorem dX6_mixRest_86 : decode cX6_mixRest 86 = .ok (.invokevirtual 273, 3) := dk_182 1 17 (dk_at dksX6_mixRest_3 17 rfl rfl)
theorem dX6_mixRest_89 : decode cX6_mixRest 89 = .ok (.iconst 0, 1) := dk_3 (dk_at dksX6_mixRest_3 20 rfl rfl)
theorem dX6_mixRest_90 : decode cX6_mixRest 90 = .ok (.istore_n 1, 1) := dk_60 (dk_at dksX6_mixRest_3 21 rfl rfl)
theorem dX6_mixRest_91 : decode cX6_mixRest 91 = .ok (.iload_n 1, 1) := dk_27 (dk_at dksX6_mixRest_3 22 rfl rfl)
theorem dX6_mixRest_92 : decode cX6_mixRest 92 = .ok (.bipush 100, 2) := dk_16 100 (dk_at dksX6_mixRest_4 0 rfl rfl)
theorem dX6_mixRest_94 : decode cX6_mixRest 94 = .ok (.if_icmp .ge 34, 3) := dk_162 0 34 (dk_at dksX6_mixRest_4 2 rfl rfl)
theorem dX6_mixRest_97 : decode cX6_mixRest 97 = .ok (.aload_n 0, 1) := dk_42 (dk_at dksX6_mixRest_4 5 rfl rfl)
theorem dX6_mixRest_98 : decode cX6_mixRest 98 = .ok (.getfield 7, 3) := dk_180 0 7 (dk_at dksX6_mixRest_4 6 rfl rfl)
theorem dX6_mixRest_101 : decode cX6_mixRest 101 = .ok (.sipush 466, 3) := dk_17 1 210 (dk_at dksX6_mixRest_4 9 rfl rfl)
theorem dX6_mixRest_104 : decode cX6_mixRest 104 = .ok (.iaload, 1) := dk_46 (dk_at dksX6_mixRest_4 12 rfl rfl)
theorem dX6_mixRest_105 : decode cX6_mixRest 105 = .ok (.iconst 1, 1) := dk_4 (dk_at dksX6_mixRest_4 13 rfl rfl)
theorem dX6_mixRest_106 : decode cX6_mixRest 106 = .ok (.if_icmp .ne 22, 3) := dk_160 0 22 (dk_at dksX6_mixRest_4 14 rfl rfl)
theorem dX6_mixRest_109 : decode cX6_mixRest 109 = .ok (.aload_n 0, 1) := dk_42 (dk_at dksX6_mixRest_4 17 rfl rfl)
theorem dX6_mixRest_110 : decode cX6_mixRest 110 = .ok (.aload_n 0, 1) := dk_42 (dk_at dksX6_mixRest_4 18 rfl rfl)
theorem dX6_mixRest_111 : decode cX6_mixRest 111 = .ok (.aload_n 0, 1) := dk_42 (dk_at dksX6_mixRest_4 19 rfl rfl)
theorem dX6_mixRest_112 : decode cX6_mixRest 112 = .ok (.invokevirtual 93, 3) := dk_182 0 93 (dk_at dksX6_mixRest_4 20 rfl rfl)
theorem dX6_mixRest_115 : decode cX6_mixRest 115 = .ok (.iload_n 1, 1) := dk_27 (dk_at dksX6_mixRest_4 23 rfl rfl)
theorem dX6_mixRest_116 : decode cX6_mixRest 116 = .ok (.invokevirtual 139, 3) := dk_182 0 139 (dk_at dksX6_mixRest_5 0 rfl rfl)
theorem dX6_mixRest_119 : decode cX6_mixRest 119 = .ok (.invokevirtual 273, 3) := dk_182 1 17 (dk_at dksX6_mixRest_5 3 rfl rfl)
theorem dX6_mixRest_122 : decode cX6_mixRest 122 = .ok (.iinc 1 1, 3) := dk_132 1 1 (dk_at dksX6_mixRest_5 6 rfl rfl)
theorem dX6_mixRest_125 : decode cX6_mixRest 125 = .ok (.goto (-34), 3) := dk_167 255 222 (dk_at dksX6_mixRest_5 9 rfl rfl)
theorem dX6_mixRest_128 : decode cX6_mixRest 128 = .ok (.return_, 1) := dk_177 (dk_at dksX6_mixRest_5 12 rfl rfl)
/-! PageGardenModel.mixRest()V -/
abbrev M_X6_mixRest (z0 n0 : Nat) (s' : gS) : gM := (RX6, cX6_mixRest, 3, none, "mixRest", [], 6, z0, n0, s'.2.1, s'.2.2)
abbrev W_X6_mixRest (E : gE) (z0 n0 : Nat) (r : Unit) (s' : gS) (pc : Nat) (L : List (Nat × gV)) (st : List gV) (s : gS) : Prop := gW E (M_X6_mixRest z0 n0 s') (gQm E (M_X6_mixRest z0 n0 s') (.inl none) s') pc L st s
noncomputable def f_X6_mixRest_10b (κ : gK) (F : Nat) (k2 : Option Nat → Int32 → gS → Option (Unit × gS)) (k10 : Option Nat → Int32 → Int32 → gS → Option (Unit × gS)) (l0 : Option Nat) (l1 : Int32) (l2 : Int32) (s : gS) : Option (Unit × gS) :=
  if (6 : Int32) ≤ l2 then
    k2 l0 (l1 + (1 : Int32)) s
  else
    gB1 (gck s l0 9) fun _ =>
    gB2 (f_X6_tellBed κ F l0 l1 l2 s) fun v2 s1 =>
    gB1 (gck s1 l0 9) fun _ =>
    gB2 (f_X6_mix κ F l0 v2 s1) fun v5 s4 =>
    k10 l0 l1 (l2 + (1 : Int32)) s4
noncomputable def f_X6_mixRest_10 (κ : gK) (F : Nat) (k2 : Option Nat → Int32 → gS → Option (Unit × gS)) : Nat → Option Nat → Int32 → Int32 → gS → Option (Unit × gS)
  | 0 => fun _ _ _ _ => none
  | n + 1 => f_X6_mixRest_10b κ F k2 (f_X6_mixRest_10 κ F k2 n)
set_option maxHeartbeats 4000000 in
theorem w_X6_mixRest_10b {E : gE} {F z0 n0 : Nat} {r : Unit} {s' : gS} {k2 : Option Nat → Int32 → gS → Option (Unit × gS)} {k10 : Option Nat → Int32 → Int32 → gS → Option (Unit × gS)} (hk2 : ∀ (l0 : Option Nat) (l1 : Int32) (s : gS), k2 l0 l1 s = some (r, s') → W_X6_mixRest E z0 n0 r s' 2 [(0, vR l0), (1, vI l1)] [] s) (hk10 : ∀ (l0 : Option Nat) (l1 : Int32) (l2 : Int32) (s : gS), k10 l0 l1 l2 s = some (r, s') → W_X6_mixRest E z0 n0 r s' 10 [(0, vR l0), (1, vI l1), (2, vI l2)] [] s) : ∀ (l0 : Option Nat) (l1 : Int32) (l2 : Int32)  (s : gS), f_X6_mixRest_10b (gk E) F k2 k10 l0 l1 l2 s = some (r, s') → W_X6_mixRest E z0 n0 r s' 10 [(0, vR l0), (1, vI l1), (2, vI l2)] [] s := by
  intro l0 l1 l2 s hB
  unfold f_X6_mixRest_10b at hB
  refine gw_iload_n 2 rfl dX6_mixRest_10 ?_
  refine gw_bipush (v := (6 : Int32)) (by decide) dX6_mixRest_11 ?_
  refine gw_icmp_ge (tgt := 32) dX6_mixRest_13 (by decide) (fun hcnd => ?_) (fun hcnd => ?_)
  · rw [if_pos hcnd] at hB
    refine gw_iinc (w := (1 : Int32)) (L' := [(1, vI (l1 + (1 : Int32))), (0, vR l0), (2, vI l2)]) 1 rfl (by decide) (Nat.le_of_ble_eq_true rfl) rfl dX6_mixRest_32 ?_
    refine gw_goto (tgt := 2) dX6_mixRest_35 (by decide) ?_
    exact gw_sub [1, 0] rfl (hk2 _ _ _ hB)
  · rw [if_neg hcnd] at hB
    refine gw_aload_n 0 rfl dX6_mixRest_16 ?_
    refine gw_aload_n 0 rfl dX6_mixRest_17 ?_
    refine gw_iload_n 1 rfl dX6_mixRest_18 ?_
    refine gw_iload_n 2 rfl dX6_mixRest_19 ?_
    obtain ⟨u0, hu3, hB⟩ := gB1_some hB
    obtain ⟨v2, s1, hv2, hB⟩ := gB2_some hB
    refine gw_callV (y := yX6_tellBed) (lw_V q2990 q2992 qs93 q143 q2993) hdV_X6_tellBed gcl9 hu3 (As := [vI l1, vI l2]) (rest := [vR l0]) (m_X6_tellBed _ _ _ _ _ _ hv2) (Nat.le_of_ble_eq_true rfl) (Nat.le_of_ble_eq_true rfl) rfl (Nat.le_of_ble_eq_true rfl) dX6_mixRest_20 (gCont_i ?_)
    obtain ⟨u0, hu6, hB⟩ := gB1_some hB
    obtain ⟨v5, s4, hv5, hB⟩ := gB2_some hB
    refine gw_callV (y := yX6_mix) (lw_V q3095 q3097 qs105 q143 q3098) hdV_X6_mix gcl9 hu6 (As := [vI v2]) (rest := []) (m_X6_mix _ _ _ _ _ hv5) (Nat.le_of_ble_eq_true rfl) (Nat.le_of_ble_eq_true rfl) rfl (Nat.le_of_ble_eq_true rfl) dX6_mixRest_23 (gCont_v ?_)
    refine gw_iinc (w := (1 : Int32)) (L' := [(2, vI (l2 + (1 : Int32))), (0, vR l0), (1, vI l1)]) 2 rfl (by decide) (Nat.le_of_ble_eq_true rfl) rfl dX6_mixRest_26 ?_
    refine gw_goto (tgt := 10) dX6_mixRest_29 (by decide) ?_
    exact gw_sub [1, 2, 0] rfl (hk10 _ _ _ _ hB)
theorem w_X6_mixRest_10 {E : gE} {F z0 n0 : Nat} {r : Unit} {s' : gS} {k2 : Option Nat → Int32 → gS → Option (Unit × gS)} (hk2 : ∀ (l0 : Option Nat) (l1 : Int32) (s : gS), k2 l0 l1 s = some (r, s') → W_X6_mixRest E z0 n0 r s' 2 [(0, vR l0), (1, vI l1)] [] s) : ∀ (n : Nat) (l0 : Option Nat) (l1 : Int32) (l2 : Int32)  (s : gS), f_X6_mixRest_10 (gk E) F k2 n l0 l1 l2 s = some (r, s') → W_X6_mixRest E z0 n0 r s' 10 [(0, vR l0), (1, vI l1), (2, vI l2)] [] s := by
  intro n
  induction n with
  | zero => intro l0 l1 l2 s hB; cases hB
  | succ n ih => intro l0 l1 l2 s hB; exact w_X6_mixRest_10b hk2 ih l0 l1 l2 s hB
noncomputable def f_X6_mixRest_54b (κ : gK) (F : Nat) (k40 : Option Nat → Int32 → gS → Option (Unit × gS)) (k54 : Option Nat → Int32 → Int32 → gS → Option (Unit × gS)) (l0 : Option Nat) (l1 : Int32) (l2 : Int32) (s : gS) : Option (Unit × gS) :=
  if (4 : Int32) ≤ l2 then
    k40 l0 (l1 + (1 : Int32)) s
  else
    gB1 (gck s l0 9) fun _ =>
    gB2 (f_X6_tellEntry κ F l0 l1 l2 s) fun v2 s1 =>
    gB1 (gck s1 l0 9) fun _ =>
    gB2 (f_X6_mix κ F l0 v2 s1) fun v5 s4 =>
    k54 l0 l1 (l2 + (1 : Int32)) s4
noncomputable def f_X6_mixRest_54 (κ : gK) (F : Nat) (k40 : Option Nat → Int32 → gS → Option (Unit × gS)) : Nat → Option Nat → Int32 → Int32 → gS → Option (Unit × gS)
  | 0 => fun _ _ _ _ => none
  | n + 1 => f_X6_mixRest_54b κ F k40 (f_X6_mixRest_54 κ F k40 n)
set_option maxHeartbeats 4000000 in
theorem w_X6_mixRest_54b {E : gE} {F z0 n0 : Nat} {r : Unit} {s' : gS} {k40 : Option Nat → Int32 → gS → Option (Unit × gS)} {k54 : Option Nat → Int32 → Int32 → gS → Option (Unit × gS)} (hk40 : ∀ (l0 : Option Nat) (l1 : Int32) (s : gS), k40 l0 l1 s = some (r, s') → W_X6_mixRest E z0 n0 r s' 40 [(0, vR l0), (1, vI l1)] [] s) (hk54 : ∀ (l0 : Option Nat) (l1 : Int32) (l2 : Int32) (s : gS), k54 l0 l1 l2 s = some (r, s') → W_X6_mixRest E z0 n0 r s' 54 [(0, vR l0), (1, vI l1), (2, vI l2)] [] s) : ∀ (l0 : Option Nat) (l1 : Int32) (l2 : Int32)  (s : gS), f_X6_mixRest_54b (gk E) F k40 k54 l0 l1 l2 s = some (r, s') → W_X6_mixRest E z0 n0 r s' 54 [(0, vR l0), (1, vI l1), (2, vI l2)] [] s := by
  intro l0 l1 l2 s hB
  unfold f_X6_mixRest_54b at hB
  refine gw_iload_n 2 rfl dX6_mixRest_54 ?_
  refine gw_iconst (v := (4 : Int32)) (by decide) dX6_mixRest_55 ?_
  refine gw_icmp_ge (tgt := 75) dX6_mixRest_56 (by decide) (fun hcnd => ?_) (fun hcnd => ?_)
  · rw [if_pos hcnd] at hB
    refine gw_iinc (w := (1 : Int32)) (L' := [(1, vI (l1 + (1 : Int32))), (0, vR l0), (2, vI l2)]) 1 rfl (by decide) (Nat.le_of_ble_eq_true rfl) rfl dX6_mixRest_75 ?_
    refine gw_goto (tgt := 40) dX6_mixRest_78 (by decide) ?_
    exact gw_sub [1, 0] rfl (hk40 _ _ _ hB)
  · rw [if_neg hcnd] at hB
    refine gw_aload_n 0 rfl dX6_mixRest_59 ?_
    refine gw_aload_n 0 rfl dX6_mixRest_60 ?_
    refine gw_iload_n 1 rfl dX6_mixRest_61 ?_
    refine gw_iload_n 2 rfl dX6_mixRest_62 ?_
    obtain ⟨u0, hu3, hB⟩ := gB1_some hB
    obtain ⟨v2, s1, hv2, hB⟩ := gB2_some hB
    refine gw_callV (y := yX6_tellEntry) (lw_V q2966 q2968 qs90 q143 q2969) hdV_X6_tellEntry gcl9 hu3 (As := [vI l1, vI l2]) (rest := [vR l0]) (m_X6_tellEntry _ _ _ _ _ _ hv2) (Nat.le_of_ble_eq_true rfl) (Nat.le_of_ble_eq_true rfl) rfl (Nat.le_of_ble_eq_true rfl) dX6_mixRest_63 (gCont_i ?_)
    obtain ⟨u0, hu6, hB⟩ := gB1_some hB
    obtain ⟨v5, s4, hv5, hB⟩ := gB2_some hB
    refine gw_callV (y := yX6_mix) (lw_V q3095 q3097 qs105 q143 q3098) hdV_X6_mix gcl9 hu6 (As := [vI v2]) (rest := []) (m_X6_mix _ _ _ _ _ hv5) (Nat.le_of_ble_eq_true rfl) (Nat.le_of_ble_eq_true rfl) rfl (Nat.le_of_ble_eq_true rfl) dX6_mixRest_66 (gCont_v ?_)
    refine gw_iinc (w := (1 : Int32)) (L' := [(2, vI (l2 + (1 : Int32))), (0, vR l0), (1, vI l1)]) 2 rfl (by decide) (Nat.le_of_ble_eq_true rfl) rfl dX6_mixRest_69 ?_
    refine gw_goto (tgt := 54) dX6_mixRest_72 (by decide) ?_
    exact gw_sub [1, 2, 0] rfl (hk54 _ _ _ _ hB)
theorem w_X6_mixRest_54 {E : gE} {F z0 n0 : Nat} {r : Unit} {s' : gS} {k40 : Option Nat → Int32 → gS → Option (Unit × gS)} (hk40 : ∀ (l0 : Option Nat) (l1 : Int32) (s : gS), k40 l0 l1 s = some (r, s') → W_X6_mixRest E z0 n0 r s' 40 [(0, vR l0), (1, vI l1)] [] s) : ∀ (n : Nat) (l0 : Option Nat) (l1 : Int32) (l2 : Int32)  (s : gS), f_X6_mixRest_54 (gk E) F k40 n l0 l1 l2 s = some (r, s') → W_X6_mixRest E z0 n0 r s' 54 [(0, vR l0), (1, vI l1), (2, vI l2)] [] s := by
  intro n
  induction n with
  | zero => intro l0 l1 l2 s hB; cases hB
  | succ n ih => intro l0 l1 l2 s hB; exact w_X6_mixRest_54b hk40 ih l0 l1 l2 s hB
noncomputable def f_X6_mixRest_128 (κ : gK) (F : Nat)   (s : gS) : Option (Unit × gS) :=
  some ((), s)
set_option maxHeartbeats 4000000 in
theorem w_X6_mixRest_128 {E : gE} {F z0 n0 : Nat} {r : Unit} {s' : gS}   : ∀   (s : gS), f_X6_mixRest_128 (gk E) F   s = some (r, s') → W_X6_mixRest E z0 n0 r s' 128 [] [] s := by
  intro  s hB
  unfold f_X6_mixRest_128 at hB
  obtain ⟨rfl, rfl⟩ := Prod.mk.inj (Option.some.inj hB)
  exact gw_vret rfl rfl rfl dX6_mixRest_128
noncomputable def f_X6_mixRest_91b (κ : gK) (F : Nat) (k91 : Option Nat → Int32 → gS → Option (Unit × gS)) (l0 : Option Nat) (l1 : Int32) (s : gS) : Option (Unit × gS) :=
  if (100 : Int32) ≤ l1 then
    f_X6_mixRest_128 κ F  s
  else
    gB1 (gfR s l0 9 0) fun v1 =>
    gB1 (gaI s v1 0 (466 : Int32)) fun v2 =>
    if v2 = (1 : Int32) then
      gB1 (gck s l0 9) fun _ =>
      gB2 (f_X6_drafts κ F l0  s) fun v4 s3 =>
      gB1 (gck s3 l0 9) fun _ =>
      gB2 (f_X6_valueBy κ F l0 v4 l1 s3) fun v7 s6 =>
      gB1 (gck s6 l0 9) fun _ =>
      gB2 (f_X6_mix κ F l0 v7 s6) fun v10 s9 =>
      k91 l0 (l1 + (1 : Int32)) s9
    else
      f_X6_mixRest_128 κ F  s
noncomputable def f_X6_mixRest_91 (κ : gK) (F : Nat)  : Nat → Option Nat → Int32 → gS → Option (Unit × gS)
  | 0 => fun _ _ _ => none
  | n + 1 => f_X6_mixRest_91b κ F  (f_X6_mixRest_91 κ F  n)
set_option maxHeartbeats 4000000 in
theorem w_X6_mixRest_91b {E : gE} {F z0 n0 : Nat} {r : Unit} {s' : gS} {k91 : Option Nat → Int32 → gS → Option (Unit × gS)} (hk91 : ∀ (l0 : Option Nat) (l1 : Int32) (s : gS), k91 l0 l1 s = some (r, s') → W_X6_mixRest E z0 n0 r s' 91 [(0, vR l0), (1, vI l1)] [] s) : ∀ (l0 : Option Nat) (l1 : Int32)  (s : gS), f_X6_mixRest_91b (gk E) F k91 l0 l1 s = some (r, s') → W_X6_mixRest E z0 n0 r s' 91 [(0, vR l0), (1, vI l1)] [] s := by
  intro l0 l1 s hB
  unfold f_X6_mixRest_91b at hB
  refine gw_iload_n 1 rfl dX6_mixRest_91 ?_
  refine gw_bipush (v := (100 : Int32)) (by decide) dX6_mixRest_92 ?_
  refine gw_icmp_ge (tgt := 128) dX6_mixRest_94 (by decide) (fun hcnd => ?_) (fun hcnd => ?_)
  · rw [if_pos hcnd] at hB
    exact gw_sub [] rfl (w_X6_mixRest_128   _ hB)
  · rw [if_neg hcnd] at hB
    refine gw_aload_n 0 rfl dX6_mixRest_97 ?_
    obtain ⟨v1, hv1, hB⟩ := gB1_some hB
    refine gw_getf (C := RX6) (T := TX6) (N := 13) (k := 0) gcl9 (by decide) in_X6 q2694 (gfR_spec hv1) dX6_mixRest_98 ?_
    refine gw_sipush (v := (466 : Int32)) (by decide) dX6_mixRest_101 ?_
    obtain ⟨v2, hv2, hB⟩ := gB1_some hB
    refine gw_iaload hv2 dX6_mixRest_104 ?_
    refine gw_iconst (v := (1 : Int32)) (by decide) dX6_mixRest_105 ?_
    refine gw_icmp_ne (tgt := 128) dX6_mixRest_106 (by decide) (fun hcnd => ?_) (fun hcnd => ?_)
    · rw [if_neg hcnd] at hB
      exact gw_sub [] rfl (w_X6_mixRest_128   _ hB)
    · rw [if_pos hcnd] at hB
      refine gw_aload_n 0 rfl dX6_mixRest_109 ?_
      refine gw_aload_n 0 rfl dX6_mixRest_110 ?_
      refine gw_aload_n 0 rfl dX6_mixRest_111 ?_
      obtain ⟨u0, hu5, hB⟩ := gB1_some hB
      obtain ⟨v4, s3, hv4, hB⟩ := gB2_some hB
      refine gw_callV (y := yX6_drafts) (lw_V q2784 q2786 qs55 q143 q2787) hdV_X6_drafts gcl9 hu5 (As := []) (rest := [vR l0, vR l0]) (m_X6_drafts _ _ _ _ hv4) (Nat.le_of_ble_eq_true rfl) (Nat.le_of_ble_eq_true rfl) rfl (Nat.le_of_ble_eq_true rfl) dX6_mixRest_112 (gCont_i ?_)
      refine gw_iload_n 1 rfl dX6_mixRest_115 ?_
      obtain ⟨u0, hu8, hB⟩ := gB1_some hB
      obtain ⟨v7, s6, hv7, hB⟩ := gB2_some hB
      refine gw_callV (y := yX6_valueBy) (lw_V q2888 q2890 qs80 q143 q2891) hdV_X6_valueBy gcl9 hu8 (As := [vI v4, vI l1]) (rest := [vR l0]) (m_X6_valueBy _ _ _ _ _ _ hv7) (Nat.le_of_ble_eq_true rfl) (Nat.le_of_ble_eq_true rfl) rfl (Nat.le_of_ble_eq_true rfl) dX6_mixRest_116 (gCont_i ?_)
      obtain ⟨u0, hu11, hB⟩ := gB1_some hB
      obtain ⟨v10, s9, hv10, hB⟩ := gB2_some hB
      refine gw_callV (y := yX6_mix) (lw_V q3095 q3097 qs105 q143 q3098) hdV_X6_mix gcl9 hu11 (As := [vI v7]) (rest := []) (m_X6_mix _ _ _ _ _ hv10) (Nat.le_of_ble_eq_true rfl) (Nat.le_of_ble_eq_true rfl) rfl (Nat.le_of_ble_eq_true rfl) dX6_mixRest_119 (gCont_v ?_)
      refine gw_iinc (w := (1 : Int32)) (L' := [(1, vI (l1 + (1 : Int32))), (0, vR l0)]) 1 rfl (by decide) (Nat.le_of_ble_eq_true rfl) rfl dX6_mixRest_122 ?_
      refine gw_goto (tgt := 91) dX6_mixRest_125 (by decide) ?_
      exact gw_sub [1, 0] rfl (hk91 _ _ _ hB)
theorem w_X6_mixRest_91 {E : gE} {F z0 n0 : Nat} {r : Unit} {s' : gS}   : ∀ (n : Nat) (l0 : Option Nat) (l1 : Int32)  (s : gS), f_X6_mixRest_91 (gk E) F  n l0 l1 s = some (r, s') → W_X6_mixRest E z0 n0 r s' 91 [(0, vR l0), (1, vI l1)] [] s := by
  intro n
  induction n with
  | zero => intro l0 l1 s hB; cases hB
  | succ n ih => intro l0 l1 s hB; exact w_X6_mixRest_91b ih l0 l1 s hB
noncomputable def f_X6_mixRest_40b (κ : gK) (F : Nat) (k40 : Option Nat → Int32 → gS → Option (Unit × gS)) (l0 : Option Nat) (l1 : Int32) (s : gS) : Option (Unit × gS) :=
  gB1 (gck s l0 9) fun _ =>
  gB2 (f_X6_now κ F l0  s) fun v2 s1 =>
  gB1 (gck s1 l0 9) fun _ =>
  gB2 (f_X6_entriesBy κ F l0 v2 s1) fun v5 s4 =>
  if v5 ≤ l1 then
    gB1 (gck s4 l0 9) fun _ =>
    gB2 (f_X6_tellNext κ F l0  s4) fun v8 s7 =>
    gB1 (gck s7 l0 9) fun _ =>
    gB2 (f_X6_mix κ F l0 v8 s7) fun v11 s10 =>
    f_X6_mixRest_91 κ F  F l0 (0 : Int32) s10
  else
    f_X6_mixRest_54 κ F k40 F l0 l1 (0 : Int32) s4
noncomputable def f_X6_mixRest_40 (κ : gK) (F : Nat)  : Nat → Option Nat → Int32 → gS → Option (Unit × gS)
  | 0 => fun _ _ _ => none
  | n + 1 => f_X6_mixRest_40b κ F  (f_X6_mixRest_40 κ F  n)
set_option maxHeartbeats 4000000 in
theorem w_X6_mixRest_40b {E : gE} {F z0 n0 : Nat} {r : Unit} {s' : gS} {k40 : Option Nat → Int32 → gS → Option (Unit × gS)} (hk40 : ∀ (l0 : Option Nat) (l1 : Int32) (s : gS), k40 l0 l1 s = some (r, s') → W_X6_mixRest E z0 n0 r s' 40 [(0, vR l0), (1, vI l1)] [] s) : ∀ (l0 : Option Nat) (l1 : Int32)  (s : gS), f_X6_mixRest_40b (gk E) F k40 l0 l1 s = some (r, s') → W_X6_mixRest E z0 n0 r s' 40 [(0, vR l0), (1, vI l1)] [] s := by
  intro l0 l1 s hB
  unfold f_X6_mixRest_40b at hB
  refine gw_iload_n 1 rfl dX6_mixRest_40 ?_
  refine gw_aload_n 0 rfl dX6_mixRest_41 ?_
  refine gw_aload_n 0 rfl dX6_mixRest_42 ?_
  obtain ⟨u0, hu3, hB⟩ := gB1_some hB
  obtain ⟨v2, s1, hv2, hB⟩ := gB2_some hB
  refine gw_callV (y := yX6_now) (lw_V q2788 q2790 qs56 q143 q2791) hdV_X6_now gcl9 hu3 (As := []) (rest := [vR l0, vI l1]) (m_X6_now _ _ _ _ hv2) (Nat.le_of_ble_eq_true rfl) (Nat.le_of_ble_eq_true rfl) rfl (Nat.le_of_ble_eq_true rfl) dX6_mixRest_43 (gCont_i ?_)
  obtain ⟨u0, hu6, hB⟩ := gB1_some hB
  obtain ⟨v5, s4, hv5, hB⟩ := gB2_some hB
  refine gw_callV (y := yX6_entriesBy) (lw_V q2962 q2964 qs89 q143 q2965) hdV_X6_entriesBy gcl9 hu6 (As := [vI v2]) (rest := [vI l1]) (m_X6_entriesBy _ _ _ _ _ hv5) (Nat.le_of_ble_eq_true rfl) (Nat.le_of_ble_eq_true rfl) rfl (Nat.le_of_ble_eq_true rfl) dX6_mixRest_46 (gCont_i ?_)
  refine gw_icmp_ge (tgt := 81) dX6_mixRest_49 (by decide) (fun hcnd => ?_) (fun hcnd => ?_)
  · rw [if_pos hcnd] at hB
    refine gw_aload_n 0 rfl dX6_mixRest_81 ?_
    refine gw_aload_n 0 rfl dX6_mixRest_82 ?_
    obtain ⟨u0, hu9, hB⟩ := gB1_some hB
    obtain ⟨v8, s7, hv8, hB⟩ := gB2_some hB
    refine gw_callV (y := yX6_tellNext) (lw_V q3018 q3020 qs98 q143 q3021) hdV_X6_tellNext gcl9 hu9 (As := []) (rest := [vR l0]) (m_X6_tellNext _ _ _ _ hv8) (Nat.le_of_ble_eq_true rfl) (Nat.le_of_ble_eq_true rfl) rfl (Nat.le_of_ble_eq_true rfl) dX6_mixRest_83 (gCont_i ?_)
    obtain ⟨u0, hu12, hB⟩ := gB1_some hB
    obtain ⟨v11, s10, hv11, hB⟩ := gB2_some hB
    refine gw_callV (y := yX6_mix) (lw_V q3095 q3097 qs105 q143 q3098) hdV_X6_mix gcl9 hu12 (As := [vI v8]) (rest := []) (m_X6_mix _ _ _ _ _ hv11) (Nat.le_of_ble_eq_true rfl) (Nat.le_of_ble_eq_true rfl) rfl (Nat.le_of_ble_eq_true rfl) dX6_mixRest_86 (gCont_v ?_)
    refine gw_iconst (v := (0 : Int32)) (by decide) dX6_mixRest_89 ?_
    refine gw_istore_n (L' := [(1, vI (0 : Int32)), (0, vR l0)]) (Nat.le_of_ble_eq_true rfl) rfl dX6_mixRest_90 ?_
    exact gw_sub [1, 0] rfl (w_X6_mixRest_91  F _ _ _ hB)
  · rw [if_neg hcnd] at hB
    refine gw_iconst (v := (0 : Int32)) (by decide) dX6_mixRest_52 ?_
    refine gw_istore_n (L' := [(2, vI (0 : Int32)), (0, vR l0), (1, vI l1)]) (Nat.le_of_ble_eq_true rfl) rfl dX6_mixRest_53 ?_
    exact gw_sub [1, 2, 0] rfl (w_X6_mixRest_54 hk40 F _ _ _ _ hB)
theorem w_X6_mixRest_40 {E : gE} {F z0 n0 : Nat} {r : Unit} {s' : gS}   : ∀ (n : Nat) (l0 : Option Nat) (l1 : Int32)  (s : gS), f_X6_mixRest_40 (gk E) F  n l0 l1 s = some (r, s') → W_X6_mixRest E z0 n0 r s' 40 [(0, vR l0), (1, vI l1)] [] s := by
  intro n
  induction n with
  | zero => intro l0 l1 s hB; cases hB
  | succ n ih => intro l0 l1 s hB; exact w_X6_mixRest_40b ih l0 l1 s hB
noncomputable def f_X6_mixRest_2b (κ : gK) (F : Nat) (k2 : Option Nat → Int32 → gS → Option (Unit × gS)) (l0 : Option Nat) (l1 : Int32) (s : gS) : Option (Unit × gS) :=
  if (32 : Int32) ≤ l1 then
    f_X6_mixRest_40 κ F  F l0 (0 : Int32) s
  else
    f_X6_mixRest_10 κ F k2 F l0 l1 (0 : Int32) s
noncomputable def f_X6_mixRest_2 (κ : gK) (F : Nat)  : Nat → Option Nat → Int32 → gS → Option (Unit × gS)
  | 0 => fun _ _ _ => none
  | n + 1 => f_X6_mixRest_2b κ F  (f_X6_mixRest_2 κ F  n)
set_option maxHeartbeats 4000000 in
theorem w_X6_mixRest_2b {E : gE} {F z0 n0 : Nat} {r : Unit} {s' : gS} {k2 : Option Nat → Int32 → gS → Option (Unit × gS)} (hk2 : ∀ (l0 : Option Nat) (l1 : Int32) (s : gS), k2 l0 l1 s = some (r, s') → W_X6_mixRest E z0 n0 r s' 2 [(0, vR l0), (1, vI l1)] [] s) : ∀ (l0 : Option Nat) (l1 : Int32)  (s : gS), f_X6_mixRest_2b (gk E) F k2 l0 l1 s = some (r, s') → W_X6_mixRest E z0 n0 r s' 2 [(0, vR l0), (1, vI l1)] [] s := by
  intro l0 l1 s hB
  unfold f_X6_mixRest_2b at hB
  refine gw_iload_n 1 rfl dX6_mixRest_2 ?_
  refine gw_bipush (v := (32 : Int32)) (by decide) dX6_mixRest_3 ?_
  refine gw_icmp_ge (tgt := 38) dX6_mixRest_5 (by decide) (fun hcnd => ?_) (fun hcnd => ?_)
  · rw [if_pos hcnd] at hB
    refine gw_iconst (v := (0 : Int32)) (by decide) dX6_mixRest_38 ?_
    refine gw_istore_n (L' := [(1, vI (0 : Int32)), (0, vR l0)]) (Nat.le_of_ble_eq_true rfl) rfl dX6_mixRest_39 ?_
    exact gw_sub [1, 0] rfl (w_X6_mixRest_40  F _ _ _ hB)
  · rw [if_neg hcnd] at hB
    refine gw_iconst (v := (0 : Int32)) (by decide) dX6_mixRest_8 ?_
    refine gw_istore_n (L' := [(2, vI (0 : Int32)), (0, vR l0), (1, vI l1)]) (Nat.le_of_ble_eq_true rfl) rfl dX6_mixRest_9 ?_
    exact gw_sub [1, 2, 0] rfl (w_X6_mixRest_10 hk2 F _ _ _ _ hB)
theorem w_X6_mixRest_2 {E : gE} {F z0 n0 : Nat} {r : Unit} {s' : gS}   : ∀ (n : Nat) (l0 : Option Nat) (l1 : Int32)  (s : gS), f_X6_mixRest_2 (gk E) F  n l0 l1 s = some (r, s') → W_X6_mixRest E z0 n0 r s' 2 [(0, vR l0), (1, vI l1)] [] s := by
  intro n
  induction n with
  | zero => intro l0 l1 s hB; cases hB
  | succ n ih => intro l0 l1 s hB; exact w_X6_mixRest_2b ih l0 l1 s hB
noncomputable def f_X6_mixRest_0 (κ : gK) (F : Nat)  (l0 : Option Nat) (s : gS) : Option (Unit × gS) :=
  f_X6_mixRest_2 κ F  F l0 (0 : Int32) s
set_option maxHeartbeats 4000000 in
theorem w_X6_mixRest_0 {E : gE} {F z0 n0 : Nat} {r : Unit} {s' : gS}   : ∀ (l0 : Option Nat)  (s : gS), f_X6_mixRest_0 (gk E) F  l0 s = some (r, s') → W_X6_mixRest E z0 n0 r s' 0 [(0, vR l0)] [] s := by
  intro l0 s hB
  unfold f_X6_mixRest_0 at hB
  refine gw_iconst (v := (0 : Int32)) (by decide) dX6_mixRest_0 ?_
  refine gw_istore_n (L' := [(1, vI (0 : Int32)), (0, vR l0)]) (Nat.le_of_ble_eq_true rfl) rfl dX6_mixRest_1 ?_
  exact gw_sub [1, 0] rfl (w_X6_mixRest_2  F _ _ _ hB)
noncomputable def f_X6_mixRest (κ : gK) (F : Nat) (a0 : Option Nat) (s : gS) : Option (Unit × gS) := f_X6_mixRest_0 κ F a0 s
theorem m_X6_mixRest {E : gE} {F : Nat} (a0 : Option Nat) (s : gS) (r : Unit) (s' : gS) (h : f_X6_mixRest (gk E) F a0 s = some (r, s')) : gCT E 6 yX6_mixRest (ws_ yX6_mixRest cX6_mixRest 3 none) [vR a0] s (.inl none) s' := by
  refine gCT_of2 (fun h => absurd h (by decide)) (plainFor_of_name (by decide)) (Nat.le_of_ble_eq_true rfl) ?_
  exact gw_sub [0] rfl (w_X6_mixRest_0 _ _ h)
def dkwX6_digest_5 : List UInt8 := [182, 1, 22, 42, 180, 1, 13, 173]
abbrev dktX6_digest_5 : List UInt8 := dkwX6_digest_5 ++ []
def dkwX6_digest_4 : List UInt8 := [42, 27, 28, 182, 0, 196, 182, 1, 17, 132, 2, 1, 167, 255, 238, 132, 1, 1, 167, 255, 225, 42]
abbrev dktX6_digest_4 : List UInt8 := dkwX6_digest_4 ++ dktX6_digest_5
def dkwX6_digest_3 : List UInt8 := [167, 255, 238, 132, 1, 1, 167, 255, 225, 3, 60, 27, 7, 162, 0, 32, 3, 61, 28, 6, 162, 0, 19, 42]
abbrev dktX6_digest_3 : List UInt8 := dkwX6_digest_3 ++ dktX6_digest_4
def dkwX6_digest_2 : List UInt8 := [162, 0, 32, 3, 61, 28, 7, 162, 0, 19, 42, 42, 27, 28, 182, 0, 193, 182, 1, 17, 132, 2, 1]
abbrev dktX6_digest_2 : List UInt8 := dkwX6_digest_2 ++ dktX6_digest_3
def dkwX6_digest_1 : List UInt8 := [16, 15, 162, 0, 18, 42, 42, 27, 182, 0, 214, 182, 1, 17, 132, 1, 1, 167, 255, 238, 3, 60, 27, 5]
abbrev dktX6_digest_1 : List UInt8 := dkwX6_digest_1 ++ dktX6_digest_2
def dkwX6_digest_0 : List UInt8 := [42, 3, 181, 0, 28, 42, 20, 1, 20, 181, 1, 13, 42, 42, 180, 0, 39, 182, 1, 17, 3, 60, 27]
abbrev dktX6_digest_0 : List UInt8 := dkwX6_digest_0 ++ dktX6_digest_1
theorem dksX6_digest_0 : cX6_digest.data.toList.drop 0 = dktX6_digest_0 := by decide +kernel
theorem dksX6_digest_1 : cX6_digest.data.toList.drop 23 = dktX6_digest_1 := dk_seg dksX6_digest_0 23 rfl rfl
theorem dksX6_digest_2 : cX6_digest.data.toList.drop 47 = dktX6_digest_2 := dk_seg dksX6_digest_1 24 rfl rfl
theorem dksX6_digest_3 : cX6_digest.data.toList.drop 70 = dktX6_digest_3 := dk_seg dksX6_digest_2 23 rfl rfl
theorem dksX6_digest_4 : cX6_digest.data.toList.drop 94 = dktX6_digest_4 := dk_seg dksX6_digest_3 24 rfl rfl
theorem dksX6_digest_5 : cX6_digest.data.toList.drop 116 = dktX6_digest_5 := dk_seg dksX6_digest_4 22 rfl rfl
theorem dX6_digest_0 : decode cX6_digest 0 = .ok (.aload_n 0, 1) := dk_42 (dk_at dksX6_digest_0 0 rfl rfl)
theorem dX6_digest_1 : decode cX6_digest 1 = .ok (.iconst 0, 1) := dk_3 (dk_at dksX6_digest_0 1 rfl rfl)
theorem dX6_digest_2 : decode cX6_digest 2 = .ok (.putfield 28, 3) := dk_181 0 28 (dk_at dksX6_digest_0 2 rfl rfl)
theorem dX6_digest_5 : decode cX6_digest 5 = .ok (.aload_n 0, 1) := dk_42 (dk_at dksX6_digest_0 5 rfl rfl)
theorem dX6_digest_6 : decode cX6_digest 6 = .ok (.ldc2_w 276, 3) := dk_20 1 20 (dk_at dksX6_digest_0 6 rfl rfl)
theorem dX6_digest_9 : decode cX6_digest 9 = .ok (.putfield 269, 3) := dk_181 1 13 (dk_at dksX6_digest_0 9 rfl rfl)
theorem dX6_digest_12 : decode cX6_digest 12 = .ok (.aload_n 0, 1) := dk_42 (dk_at dksX6_digest_0 12 rfl rfl)
theorem dX6_digest_13 : decode cX6_digest 13 = .ok (.aload_n 0, 1) := dk_42 (dk_at dksX6_digest_0 13 rfl rfl)
theorem dX6_digest_14 : decode cX6_digest 14 = .ok (.getfield 39, 3) := dk_180 0 39 (dk_at dksX6_digest_0 14 rfl rfl)
theorem dX6_digest_17 : decode cX6_digest 17 = .ok (.invokevirtual 273, 3) := dk_182 1 17 (dk_at dksX6_digest_0 17 rfl rfl)
theorem dX6_digest_20 : decode cX6_digest 20 = .ok (.iconst 0, 1) := dk_3 (dk_at dksX6_digest_0 20 rfl rfl)
theorem dX6_digest_21 : decode cX6_digest 21 = .ok (.istore_n 1, 1) := dk_60 (dk_at dksX6_digest_0 21 rfl rfl)
theorem dX6_digest_22 : decode cX6_digest 22 = .ok (.iload_n 1, 1) := dk_27 (dk_at dksX6_digest_0 22 rfl rfl)
theorem dX6_digest_23 : decode cX6_digest 23 = .ok (.bipush 15, 2) := dk_16 15 (dk_at dksX6_digest_1 0 rfl rfl)
theorem dX6_digest_25 : decode cX6_digest 25 = .ok (.if_icmp .ge 18, 3) := dk_162 0 18 (dk_at dksX6_digest_1 2 rfl rfl)
theorem dX6_digest_28 : decode cX6_digest 28 = .ok (.aload_n 0, 1) := dk_42 (dk_at dksX6_digest_1 5 rfl rfl)
theorem dX6_digest_29 : decode cX6_digest 29 = .ok (.aload_n 0, 1) := dk_42 (dk_at dksX6_digest_1 6 rfl rfl)
theorem dX6_digest_30 : decode cX6_digest 30 = .ok (.iload_n 1, 1) := dk_27 (dk_at dksX6_digest_1 7 rfl rfl)
theorem dX6_digest_31 : decode cX6_digest 31 = .ok (.invokevirtual 214, 3) := dk_182 0 214 (dk_at dksX6_digest_1 8 rfl rfl)
theorem dX6_digest_34 : decode cX6_digest 34 = .ok (.invokevirtual 273, 3) := dk_182 1 17 (dk_at dksX6_digest_1 11 rfl rfl)
theorem dX6_digest_37 : decode cX6_digest 37 = .ok (.iinc 1 1, 3) := dk_132 1 1 (dk_at dksX6_digest_1 14 rfl rfl)
theorem dX6_digest_40 : decode cX6_digest 40 = .ok (.goto (-18), 3) := dk_167 255 238 (dk_at dksX6_digest_1 17 rfl rfl)
theorem dX6_digest_43 : decode cX6_digest 43 = .ok (.iconst 0, 1) := dk_3 (dk_at dksX6_digest_1 20 rfl rfl)
theorem dX6_digest_44 : decode cX6_digest 44 = .ok (.istore_n 1, 1) := dk_60 (dk_at dksX6_digest_1 21 rfl rfl)
theorem dX6_digest_45 : decode cX6_digest 45 = .ok (.iload_n 1, 1) := dk_27 (dk_at dksX6_digest_1 22 rfl rfl)
theorem dX6_digest_46 : decode cX6_digest 46 = .ok (.iconst 2, 1) := dk_5 (dk_at dksX6_digest_1 23 rfl rfl)
theorem dX6_digest_47 : decode cX6_digest 47 = .ok (.if_icmp .ge 32, 3) := dk_162 0 32 (dk_at dksX6_digest_2 0 rfl rfl)
theorem dX6_digest_50 : decode cX6_digest 50 = .ok (.iconst 0, 1) := dk_3 (dk_at dksX6_digest_2 3 rfl rfl)
theorem dX6_digest_51 : decode cX6_digest 51 = .ok (.istore_n 2, 1) := dk_61 (dk_at dksX6_digest_2 4 rfl rfl)
theorem dX6_digest_52 : decode cX6_digest 52 = .ok (.iload_n 2, 1) := dk_28 (dk_at dksX6_digest_2 5 rfl rfl)
theorem dX6_digest_53 : decode cX6_digest 53 = .ok (.iconst 4, 1) := dk_7 (dk_at dksX6_digest_2 6 rfl rfl)
theorem dX6_digest_54 : decode cX6_digest 54 = .ok (.if_icmp .ge 19, 3) := dk_162 0 19 (dk_at dksX6_digest_2 7 rfl rfl)
theorem dX6_digest_57 : decode cX6_digest 57 = .ok (.aload_n 0, 1) := dk_42 (dk_at dksX6_digest_2 10 rfl rfl)
theorem dX6_digest_58 : decode cX6_digest 58 = .ok (.aload_n 0, 1) := dk_42 (dk_at dksX6_digest_2 11 rfl rfl)
theorem dX6_digest_59 : decode cX6_digest 59 = .ok (.iload_n 1, 1) := dk_27 (dk_at dksX6_digest_2 12 rfl rfl)
theorem dX6_digest_60 : decode cX6_digest 60 = .ok (.iload_n 2, 1) := dk_28 (dk_at dksX6_digest_2 13 rfl rfl)
theorem dX6_digest_61 : decode cX6_digest 61 = .ok (.invokevirtual 193, 3) := dk_182 0 193 (dk_at dksX6_digest_2 14 rfl rfl)
theorem dX6_digest_64 : decode cX6_digest 64 = .ok (.invokevirtual 273, 3) := dk_182 1 17 (dk_at dksX6_digest_2 17 rfl rfl)
theorem dX6_digest_67 : decode cX6_digest 67 = .ok (.iinc 2 1, 3) := dk_132 2 1 (dk_at dksX6_digest_2 20 rfl rfl)
theorem dX6_digest_70 : decode cX6_digest 70 = .ok (.goto (-18), 3) := dk_167 255 238 (dk_at dksX6_digest_3 0 rfl rfl)
theorem dX6_digest_73 : decode cX6_digest 73 = .ok (.iinc 1 1, 3) := dk_132 1 1 (dk_at dksX6_digest_3 3 rfl rfl)
theorem dX6_digest_76 : decode cX6_digest 76 = .ok (.goto (-31), 3) := dk_167 255 225 (dk_at dksX6_digest_3 6 rfl rfl)
theorem dX6_digest_79 : decode cX6_digest 79 = .ok (.iconst 0, 1) := dk_3 (dk_at dksX6_digest_3 9 rfl rfl)
theorem dX6_digest_80 : decode cX6_digest 80 = .ok (.istore_n 1, 1) := dk_60 (dk_at dksX6_digest_3 10 rfl rfl)
theorem dX6_digest_81 : decode cX6_digest 81 = .ok (.iload_n 1, 1) := dk_27 (dk_at dksX6_digest_3 11 rfl rfl)
theorem dX6_digest_82 : decode cX6_digest 82 = .ok (.iconst 4, 1) := dk_7 (dk_at dksX6_digest_3 12 rfl rfl)
theorem dX6_digest_83 : decode cX6_digest 83 = .ok (.if_icmp .ge 32, 3) := dk_162 0 32 (dk_at dksX6_digest_3 13 rfl rfl)
theorem dX6_digest_86 : decode cX6_digest 86 = .ok (.iconst 0, 1) := dk_3 (dk_at dksX6_digest_3 16 rfl rfl)
theorem dX6_digest_87 : decode cX6_digest 87 = .ok (.istore_n 2, 1) := dk_61 (dk_at dksX6_digest_3 17 rfl rfl)
theorem dX6_digest_88 : decode cX6_digest 88 = .ok (.iload_n 2, 1) := dk_28 (dk_at dksX6_digest_3 18 rfl rfl)
theorem dX6_digest_89 : decode cX6_digest 89 = .ok (.iconst 3, 1) := dk_6 (dk_at dksX6_digest_3 19 rfl rfl)
theorem dX6_digest_90 : decode cX6_digest 90 = .ok (.if_icmp .ge 19, 3) := dk_162 0 19 (dk_at dksX6_digest_3 20 rfl rfl)
theorem dX6_digest_93 : decode cX6_digest 93 = .ok (.aload_n 0, 1) := dk_42 (dk_at dksX6_digest_3 23 rfl rfl)
theorem dX6_digest_94 : decode cX6_digest 94 = .ok (.aload_n 0, 1) := dk_42 (dk_at dksX6_digest_4 0 rfl rfl)
theorem dX6_digest_95 : decode cX6_digest 95 = .ok (.iload_n 1, 1) := dk_27 (dk_at dksX6_digest_4 1 rfl rfl)
theorem dX6_digest_96 : decode cX6_digest 96 = .ok (.iload_n 2, 1) := dk_28 (dk_at dksX6_digest_4 2 rfl rfl)
theorem dX6_digest_97 : decode cX6_digest 97 = .ok (.invokevirtual 196, 3) := dk_182 0 196 (dk_at dksX6_digest_4 3 rfl rfl)
theorem dX6_digest_100 : decode cX6_digest 100 = .ok (.invokevirtual 273, 3) := dk_182 1 17 (dk_at dksX6_digest_4 6 rfl rfl)
theorem dX6_digest_103 : decode cX6_digest 103 = .ok (.iinc 2 1, 3) := dk_132 2 1 (dk_at dksX6_digest_4 9 rfl rfl)
theorem dX6_digest_106 : decode cX6_digest 106 = .ok (.goto (-18), 3) := dk_167 255 238 (dk_at dksX6_digest_4 12 rfl rfl)
theorem dX6_digest_109 : decode cX6_digest 109 = .ok (.iinc 1 1, 3) := dk_132 1 1 (dk_at dksX6_digest_4 15 rfl rfl)
theorem dX6_digest_112 : decode cX6_digest 112 = .ok (.goto (-31), 3) := dk_167 255 225 (dk_at dksX6_digest_4 18 rfl rfl)
theorem dX6_digest_115 : decode cX6_digest 115 = .ok (.aload_n 0, 1) := dk_42 (dk_at dksX6_digest_4 21 rfl rfl)
theorem dX6_digest_116 : decode cX6_digest 116 = .ok (.invokevirtual 278, 3) := dk_182 1 22 (dk_at dksX6_digest_5 0 rfl rfl)
theorem dX6_digest_119 : decode cX6_digest 119 = .ok (.aload_n 0, 1) := dk_42 (dk_at dksX6_digest_5 3 rfl rfl)
theorem dX6_digest_120 : decode cX6_digest 120 = .ok (.getfield 269, 3) := dk_180 1 13 (dk_at dksX6_digest_5 4 rfl rfl)
theorem dX6_digest_123 : decode cX6_digest 123 = .ok (.lreturn, 1) := dk_173 (dk_at dksX6_digest_5 7 rfl rfl)
/-! PageGardenModel.digest()J -/
abbrev M_X6_digest (z0 n0 : Nat) (s' : gS) : gM := (RX6, cX6_digest, 3, (some FieldType.long), "digest", [], 7, z0, n0, s'.2.1, s'.2.2)
abbrev W_X6_digest (E : gE) (z0 n0 : Nat) (r : Int64) (s' : gS) (pc : Nat) (L : List (Nat × gV)) (st : List gV) (s : gS) : Prop := gW E (M_X6_digest z0 n0 s') (gQm E (M_X6_digest z0 n0 s') (.inl (some (vJ r))) s') pc L st s
noncomputable def f_X6_digest_52b (κ : gK) (F : Nat) (k45 : Option Nat → Int32 → gS → Option (Int64 × gS)) (k52 : Option Nat → Int32 → Int32 → gS → Option (Int64 × gS)) (l0 : Option Nat) (l1 : Int32) (l2 : Int32) (s : gS) : Option (Int64 × gS) :=
  if (4 : Int32) ≤ l2 then
    k45 l0 (l1 + (1 : Int32)) s
  else
    gB1 (gck s l0 9) fun _ =>
    gB2 (f_X6_tellRoot κ F l0 l1 l2 s) fun v2 s1 =>
    gB1 (gck s1 l0 9) fun _ =>
    gB2 (f_X6_mix κ F l0 v2 s1) fun v5 s4 =>
    k52 l0 l1 (l2 + (1 : Int32)) s4
noncomputable def f_X6_digest_52 (κ : gK) (F : Nat) (k45 : Option Nat → Int32 → gS → Option (Int64 × gS)) : Nat → Option Nat → Int32 → Int32 → gS → Option (Int64 × gS)
  | 0 => fun _ _ _ _ => none
  | n + 1 => f_X6_digest_52b κ F k45 (f_X6_digest_52 κ F k45 n)
set_option maxHeartbeats 4000000 in
theorem w_X6_digest_52b {E : gE} {F z0 n0 : Nat} {r : Int64} {s' : gS} {k45 : Option Nat → Int32 → gS → Option (Int64 × gS)} {k52 : Option Nat → Int32 → Int32 → gS → Option (Int64 × gS)} (hk45 : ∀ (l0 : Option Nat) (l1 : Int32) (s : gS), k45 l0 l1 s = some (r, s') → W_X6_digest E z0 n0 r s' 45 [(0, vR l0), (1, vI l1)] [] s) (hk52 : ∀ (l0 : Option Nat) (l1 : Int32) (l2 : Int32) (s : gS), k52 l0 l1 l2 s = some (r, s') → W_X6_digest E z0 n0 r s' 52 [(0, vR l0), (1, vI l1), (2, vI l2)] [] s) : ∀ (l0 : Option Nat) (l1 : Int32) (l2 : Int32)  (s : gS), f_X6_digest_52b (gk E) F k45 k52 l0 l1 l2 s = some (r, s') → W_X6_digest E z0 n0 r s' 52 [(0, vR l0), (1, vI l1), (2, vI l2)] [] s := by
  intro l0 l1 l2 s hB
  unfold f_X6_digest_52b at hB
  refine gw_iload_n 2 rfl dX6_digest_52 ?_
  refine gw_iconst (v := (4 : Int32)) (by decide) dX6_digest_53 ?_
  refine gw_icmp_ge (tgt := 73) dX6_digest_54 (by decide) (fun hcnd => ?_) (fun hcnd => ?_)
  · rw [if_pos hcnd] at hB
    refine gw_iinc (w := (1 : Int32)) (L' := [(1, vI (l1 + (1 : Int32))), (0, vR l0), (2, vI l2)]) 1 rfl (by decide) (Nat.le_of_ble_eq_true rfl) rfl dX6_digest_73 ?_
    refine gw_goto (tgt := 45) dX6_digest_76 (by decide) ?_
    exact gw_sub [1, 0] rfl (hk45 _ _ _ hB)
  · rw [if_neg hcnd] at hB
    refine gw_aload_n 0 rfl dX6_digest_57 ?_
    refine gw_aload_n 0 rfl dX6_digest_58 ?_
    refine gw_iload_n 1 rfl dX6_digest_59 ?_
    refine gw_iload_n 2 rfl dX6_digest_60 ?_
    obtain ⟨u0, hu3, hB⟩ := gB1_some hB
    obtain ⟨v2, s1, hv2, hB⟩ := gB2_some hB
    refine gw_callV (y := yX6_tellRoot) (lw_V q2974 q2976 qs91 q143 q2977) hdV_X6_tellRoot gcl9 hu3 (As := [vI l1, vI l2]) (rest := [vR l0]) (m_X6_tellRoot _ _ _ _ _ _ hv2) (Nat.le_of_ble_eq_true rfl) (Nat.le_of_ble_eq_true rfl) rfl (Nat.le_of_ble_eq_true rfl) dX6_digest_61 (gCont_i ?_)
    obtain ⟨u0, hu6, hB⟩ := gB1_some hB
    obtain ⟨v5, s4, hv5, hB⟩ := gB2_some hB
    refine gw_callV (y := yX6_mix) (lw_V q3095 q3097 qs105 q143 q3098) hdV_X6_mix gcl9 hu6 (As := [vI v2]) (rest := []) (m_X6_mix _ _ _ _ _ hv5) (Nat.le_of_ble_eq_true rfl) (Nat.le_of_ble_eq_true rfl) rfl (Nat.le_of_ble_eq_true rfl) dX6_digest_64 (gCont_v ?_)
    refine gw_iinc (w := (1 : Int32)) (L' := [(2, vI (l2 + (1 : Int32))), (0, vR l0), (1, vI l1)]) 2 rfl (by decide) (Nat.le_of_ble_eq_true rfl) rfl dX6_digest_67 ?_
    refine gw_goto (tgt := 52) dX6_digest_70 (by decide) ?_
    exact gw_sub [1, 2, 0] rfl (hk52 _ _ _ _ hB)
theorem w_X6_digest_52 {E : gE} {F z0 n0 : Nat} {r : Int64} {s' : gS} {k45 : Option Nat → Int32 → gS → Option (Int64 × gS)} (hk45 : ∀ (l0 : Option Nat) (l1 : Int32) (s : gS), k45 l0 l1 s = some (r, s') → W_X6_digest E z0 n0 r s' 45 [(0, vR l0), (1, vI l1)] [] s) : ∀ (n : Nat) (l0 : Option Nat) (l1 : Int32) (l2 : Int32)  (s : gS), f_X6_digest_52 (gk E) F k45 n l0 l1 l2 s = some (r, s') → W_X6_digest E z0 n0 r s' 52 [(0, vR l0), (1, vI l1), (2, vI l2)] [] s := by
  intro n
  induction n with
  | zero => intro l0 l1 l2 s hB; cases hB
  | succ n ih => intro l0 l1 l2 s hB; exact w_X6_digest_52b hk45 ih l0 l1 l2 s hB
noncomputable def f_X6_digest_88b (κ : gK) (F : Nat) (k81 : Option Nat → Int32 → gS → Option (Int64 × gS)) (k88 : Option Nat → Int32 → Int32 → gS → Option (Int64 × gS)) (l0 : Option Nat) (l1 : Int32) (l2 : Int32) (s : gS) : Option (Int64 × gS) :=
  if (3 : Int32) ≤ l2 then
    k81 l0 (l1 + (1 : Int32)) s
  else
    gB1 (gck s l0 9) fun _ =>
    gB2 (f_X6_tellReader κ F l0 l1 l2 s) fun v2 s1 =>
    gB1 (gck s1 l0 9) fun _ =>
    gB2 (f_X6_mix κ F l0 v2 s1) fun v5 s4 =>
    k88 l0 l1 (l2 + (1 : Int32)) s4
noncomputable def f_X6_digest_88 (κ : gK) (F : Nat) (k81 : Option Nat → Int32 → gS → Option (Int64 × gS)) : Nat → Option Nat → Int32 → Int32 → gS → Option (Int64 × gS)
  | 0 => fun _ _ _ _ => none
  | n + 1 => f_X6_digest_88b κ F k81 (f_X6_digest_88 κ F k81 n)
set_option maxHeartbeats 4000000 in
theorem w_X6_digest_88b {E : gE} {F z0 n0 : Nat} {r : Int64} {s' : gS} {k81 : Option Nat → Int32 → gS → Option (Int64 × gS)} {k88 : Option Nat → Int32 → Int32 → gS → Option (Int64 × gS)} (hk81 : ∀ (l0 : Option Nat) (l1 : Int32) (s : gS), k81 l0 l1 s = some (r, s') → W_X6_digest E z0 n0 r s' 81 [(0, vR l0), (1, vI l1)] [] s) (hk88 : ∀ (l0 : Option Nat) (l1 : Int32) (l2 : Int32) (s : gS), k88 l0 l1 l2 s = some (r, s') → W_X6_digest E z0 n0 r s' 88 [(0, vR l0), (1, vI l1), (2, vI l2)] [] s) : ∀ (l0 : Option Nat) (l1 : Int32) (l2 : Int32)  (s : gS), f_X6_digest_88b (gk E) F k81 k88 l0 l1 l2 s = some (r, s') → W_X6_digest E z0 n0 r s' 88 [(0, vR l0), (1, vI l1), (2, vI l2)] [] s := by
  intro l0 l1 l2 s hB
  unfold f_X6_digest_88b at hB
  refine gw_iload_n 2 rfl dX6_digest_88 ?_
  refine gw_iconst (v := (3 : Int32)) (by decide) dX6_digest_89 ?_
  refine gw_icmp_ge (tgt := 109) dX6_digest_90 (by decide) (fun hcnd => ?_) (fun hcnd => ?_)
  · rw [if_pos hcnd] at hB
    refine gw_iinc (w := (1 : Int32)) (L' := [(1, vI (l1 + (1 : Int32))), (0, vR l0), (2, vI l2)]) 1 rfl (by decide) (Nat.le_of_ble_eq_true rfl) rfl dX6_digest_109 ?_
    refine gw_goto (tgt := 81) dX6_digest_112 (by decide) ?_
    exact gw_sub [1, 0] rfl (hk81 _ _ _ hB)
  · rw [if_neg hcnd] at hB
    refine gw_aload_n 0 rfl dX6_digest_93 ?_
    refine gw_aload_n 0 rfl dX6_digest_94 ?_
    refine gw_iload_n 1 rfl dX6_digest_95 ?_
    refine gw_iload_n 2 rfl dX6_digest_96 ?_
    obtain ⟨u0, hu3, hB⟩ := gB1_some hB
    obtain ⟨v2, s1, hv2, hB⟩ := gB2_some hB
    refine gw_callV (y := yX6_tellReader) (lw_V q2982 q2984 qs92 q143 q2985) hdV_X6_tellReader gcl9 hu3 (As := [vI l1, vI l2]) (rest := [vR l0]) (m_X6_tellReader _ _ _ _ _ _ hv2) (Nat.le_of_ble_eq_true rfl) (Nat.le_of_ble_eq_true rfl) rfl (Nat.le_of_ble_eq_true rfl) dX6_digest_97 (gCont_i ?_)
    obtain ⟨u0, hu6, hB⟩ := gB1_some hB
    obtain ⟨v5, s4, hv5, hB⟩ := gB2_some hB
    refine gw_callV (y := yX6_mix) (lw_V q3095 q3097 qs105 q143 q3098) hdV_X6_mix gcl9 hu6 (As := [vI v2]) (rest := []) (m_X6_mix _ _ _ _ _ hv5) (Nat.le_of_ble_eq_true rfl) (Nat.le_of_ble_eq_true rfl) rfl (Nat.le_of_ble_eq_true rfl) dX6_digest_100 (gCont_v ?_)
    refine gw_iinc (w := (1 : Int32)) (L' := [(2, vI (l2 + (1 : Int32))), (0, vR l0), (1, vI l1)]) 2 rfl (by decide) (Nat.le_of_ble_eq_true rfl) rfl dX6_digest_103 ?_
    refine gw_goto (tgt := 88) dX6_digest_106 (by decide) ?_
    exact gw_sub [1, 2, 0] rfl (hk88 _ _ _ _ hB)
theorem w_X6_digest_88 {E : gE} {F z0 n0 : Nat} {r : Int64} {s' : gS} {k81 : Option Nat → Int32 → gS → Option (Int64 × gS)} (hk81 : ∀ (l0 : Option Nat) (l1 : Int32) (s : gS), k81 l0 l1 s = some (r, s') → W_X6_digest E z0 n0 r s' 81 [(0, vR l0), (1, vI l1)] [] s) : ∀ (n : Nat) (l0 : Option Nat) (l1 : Int32) (l2 : Int32)  (s : gS), f_X6_digest_88 (gk E) F k81 n l0 l1 l2 s = some (r, s') → W_X6_digest E z0 n0 r s' 88 [(0, vR l0), (1, vI l1), (2, vI l2)] [] s := by
  intro n
  induction n with
  | zero => intro l0 l1 l2 s hB; cases hB
  | succ n ih => intro l0 l1 l2 s hB; exact w_X6_digest_88b hk81 ih l0 l1 l2 s hB
noncomputable def f_X6_digest_81b (κ : gK) (F : Nat) (k81 : Option Nat → Int32 → gS → Option (Int64 × gS)) (l0 : Option Nat) (l1 : Int32) (s : gS) : Option (Int64 × gS) :=
  if (4 : Int32) ≤ l1 then
    gB1 (gck s l0 9) fun _ =>
    gB2 (f_X6_mixRest κ F l0  s) fun v2 s1 =>
    gB1 (gfJ s1 l0 9 12) fun v4 =>
    some (v4, s1)
  else
    f_X6_digest_88 κ F k81 F l0 l1 (0 : Int32) s
noncomputable def f_X6_digest_81 (κ : gK) (F : Nat)  : Nat → Option Nat → Int32 → gS → Option (Int64 × gS)
  | 0 => fun _ _ _ => none
  | n + 1 => f_X6_digest_81b κ F  (f_X6_digest_81 κ F  n)
set_option maxHeartbeats 4000000 in
theorem w_X6_digest_81b {E : gE} {F z0 n0 : Nat} {r : Int64} {s' : gS} {k81 : Option Nat → Int32 → gS → Option (Int64 × gS)} (hk81 : ∀ (l0 : Option Nat) (l1 : Int32) (s : gS), k81 l0 l1 s = some (r, s') → W_X6_digest E z0 n0 r s' 81 [(0, vR l0), (1, vI l1)] [] s) : ∀ (l0 : Option Nat) (l1 : Int32)  (s : gS), f_X6_digest_81b (gk E) F k81 l0 l1 s = some (r, s') → W_X6_digest E z0 n0 r s' 81 [(0, vR l0), (1, vI l1)] [] s := by
  intro l0 l1 s hB
  unfold f_X6_digest_81b at hB
  refine gw_iload_n 1 rfl dX6_digest_81 ?_
  refine gw_iconst (v := (4 : Int32)) (by decide) dX6_digest_82 ?_
  refine gw_icmp_ge (tgt := 115) dX6_digest_83 (by decide) (fun hcnd => ?_) (fun hcnd => ?_)
  · rw [if_pos hcnd] at hB
    refine gw_aload_n 0 rfl dX6_digest_115 ?_
    obtain ⟨u0, hu3, hB⟩ := gB1_some hB
    obtain ⟨v2, s1, hv2, hB⟩ := gB2_some hB
    refine gw_callV (y := yX6_mixRest) (lw_V q3100 q3102 qs106 q143 q3103) hdV_X6_mixRest gcl9 hu3 (As := []) (rest := []) (m_X6_mixRest _ _ _ _ hv2) (Nat.le_of_ble_eq_true rfl) (Nat.le_of_ble_eq_true rfl) rfl (Nat.le_of_ble_eq_true rfl) dX6_digest_116 (gCont_v ?_)
    refine gw_aload_n 0 rfl dX6_digest_119 ?_
    obtain ⟨v4, hv4, hB⟩ := gB1_some hB
    refine gw_getf (C := RX6) (T := TX6) (N := 13) (k := 12) gcl9 (by decide) in_X6 q2706 (gfJ_spec hv4) dX6_digest_120 ?_
    obtain ⟨rfl, rfl⟩ := Prod.mk.inj (Option.some.inj hB)
    exact gw_lret rfl rfl rfl dX6_digest_123
  · rw [if_neg hcnd] at hB
    refine gw_iconst (v := (0 : Int32)) (by decide) dX6_digest_86 ?_
    refine gw_istore_n (L' := [(2, vI (0 : Int32)), (0, vR l0), (1, vI l1)]) (Nat.le_of_ble_eq_true rfl) rfl dX6_digest_87 ?_
    exact gw_sub [1, 2, 0] rfl (w_X6_digest_88 hk81 F _ _ _ _ hB)
theorem w_X6_digest_81 {E : gE} {F z0 n0 : Nat} {r : Int64} {s' : gS}   : ∀ (n : Nat) (l0 : Option Nat) (l1 : Int32)  (s : gS), f_X6_digest_81 (gk E) F  n l0 l1 s = some (r, s') → W_X6_digest E z0 n0 r s' 81 [(0, vR l0), (1, vI l1)] [] s := by
  intro n
  induction n with
  | zero => intro l0 l1 s hB; cases hB
  | succ n ih => intro l0 l1 s hB; exact w_X6_digest_81b ih l0 l1 s hB
noncomputable def f_X6_digest_45b (κ : gK) (F : Nat) (k45 : Option Nat → Int32 → gS → Option (Int64 × gS)) (l0 : Option Nat) (l1 : Int32) (s : gS) : Option (Int64 × gS) :=
  if (2 : Int32) ≤ l1 then
    f_X6_digest_81 κ F  F l0 (0 : Int32) s
  else
    f_X6_digest_52 κ F k45 F l0 l1 (0 : Int32) s
noncomputable def f_X6_digest_45 (κ : gK) (F : Nat)  : Nat → Option Nat → Int32 → gS → Option (Int64 × gS)
  | 0 => fun _ _ _ => none
  | n + 1 => f_X6_digest_45b κ F  (f_X6_digest_45 κ F  n)
set_option maxHeartbeats 4000000 in
theorem w_X6_digest_45b {E : gE} {F z0 n0 : Nat} {r : Int64} {s' : gS} {k45 : Option Nat → Int32 → gS → Option (Int64 × gS)} (hk45 : ∀ (l0 : Option Nat) (l1 : Int32) (s : gS), k45 l0 l1 s = some (r, s') → W_X6_digest E z0 n0 r s' 45 [(0, vR l0), (1, vI l1)] [] s) : ∀ (l0 : Option Nat) (l1 : Int32)  (s : gS), f_X6_digest_45b (gk E) F k45 l0 l1 s = some (r, s') → W_X6_digest E z0 n0 r s' 45 [(0, vR l0), (1, vI l1)] [] s := by
  intro l0 l1 s hB
  unfold f_X6_digest_45b at hB
  refine gw_iload_n 1 rfl dX6_digest_45 ?_
  refine gw_iconst (v := (2 : Int32)) (by decide) dX6_digest_46 ?_
  refine gw_icmp_ge (tgt := 79) dX6_digest_47 (by decide) (fun hcnd => ?_) (fun hcnd => ?_)
  · rw [if_pos hcnd] at hB
    refine gw_iconst (v := (0 : Int32)) (by decide) dX6_digest_79 ?_
    refine gw_istore_n (L' := [(1, vI (0 : Int32)), (0, vR l0)]) (Nat.le_of_ble_eq_true rfl) rfl dX6_digest_80 ?_
    exact gw_sub [1, 0] rfl (w_X6_digest_81  F _ _ _ hB)
  · rw [if_neg hcnd] at hB
    refine gw_iconst (v := (0 : Int32)) (by decide) dX6_digest_50 ?_
    refine gw_istore_n (L' := [(2, vI (0 : Int32)), (0, vR l0), (1, vI l1)]) (Nat.le_of_ble_eq_true rfl) rfl dX6_digest_51 ?_
    exact gw_sub [1, 2, 0] rfl (w_X6_digest_52 hk45 F _ _ _ _ hB)
theorem w_X6_digest_45 {E : gE} {F z0 n0 : Nat} {r : Int64} {s' : gS}   : ∀ (n : Nat) (l0 : Option Nat) (l1 : Int32)  (s : gS), f_X6_digest_45 (gk E) F  n l0 l1 s = some (r, s') → W_X6_digest E z0 n0 r s' 45 [(0, vR l0), (1, vI l1)] [] s := by
  intro n
  induction n with
  | zero => intro l0 l1 s hB; cases hB
  | succ n ih => intro l0 l1 s hB; exact w_X6_digest_45b ih l0 l1 s hB
noncomputable def f_X6_digest_22b (κ : gK) (F : Nat) (k22 : Option Nat → Int32 → gS → Option (Int64 × gS)) (l0 : Option Nat) (l1 : Int32) (s : gS) : Option (Int64 × gS) :=
  if (15 : Int32) ≤ l1 then
    f_X6_digest_45 κ F  F l0 (0 : Int32) s
  else
    gB1 (gck s l0 9) fun _ =>
    gB2 (f_X6_tell κ F l0 l1 s) fun v2 s1 =>
    gB1 (gck s1 l0 9) fun _ =>
    gB2 (f_X6_mix κ F l0 v2 s1) fun v5 s4 =>
    k22 l0 (l1 + (1 : Int32)) s4
noncomputable def f_X6_digest_22 (κ : gK) (F : Nat)  : Nat → Option Nat → Int32 → gS → Option (Int64 × gS)
  | 0 => fun _ _ _ => none
  | n + 1 => f_X6_digest_22b κ F  (f_X6_digest_22 κ F  n)
set_option maxHeartbeats 4000000 in
theorem w_X6_digest_22b {E : gE} {F z0 n0 : Nat} {r : Int64} {s' : gS} {k22 : Option Nat → Int32 → gS → Option (Int64 × gS)} (hk22 : ∀ (l0 : Option Nat) (l1 : Int32) (s : gS), k22 l0 l1 s = some (r, s') → W_X6_digest E z0 n0 r s' 22 [(0, vR l0), (1, vI l1)] [] s) : ∀ (l0 : Option Nat) (l1 : Int32)  (s : gS), f_X6_digest_22b (gk E) F k22 l0 l1 s = some (r, s') → W_X6_digest E z0 n0 r s' 22 [(0, vR l0), (1, vI l1)] [] s := by
  intro l0 l1 s hB
  unfold f_X6_digest_22b at hB
  refine gw_iload_n 1 rfl dX6_digest_22 ?_
  refine gw_bipush (v := (15 : Int32)) (by decide) dX6_digest_23 ?_
  refine gw_icmp_ge (tgt := 43) dX6_digest_25 (by decide) (fun hcnd => ?_) (fun hcnd => ?_)
  · rw [if_pos hcnd] at hB
    refine gw_iconst (v := (0 : Int32)) (by decide) dX6_digest_43 ?_
    refine gw_istore_n (L' := [(1, vI (0 : Int32)), (0, vR l0)]) (Nat.le_of_ble_eq_true rfl) rfl dX6_digest_44 ?_
    exact gw_sub [1, 0] rfl (w_X6_digest_45  F _ _ _ hB)
  · rw [if_neg hcnd] at hB
    refine gw_aload_n 0 rfl dX6_digest_28 ?_
    refine gw_aload_n 0 rfl dX6_digest_29 ?_
    refine gw_iload_n 1 rfl dX6_digest_30 ?_
    obtain ⟨u0, hu3, hB⟩ := gB1_some hB
    obtain ⟨v2, s1, hv2, hB⟩ := gB2_some hB
    refine gw_callV (y := yX6_tell) (lw_V q2998 q3000 qs94 q143 q3001) hdV_X6_tell gcl9 hu3 (As := [vI l1]) (rest := [vR l0]) (m_X6_tell _ _ _ _ _ hv2) (Nat.le_of_ble_eq_true rfl) (Nat.le_of_ble_eq_true rfl) rfl (Nat.le_of_ble_eq_true rfl) dX6_digest_31 (gCont_i ?_)
    obtain ⟨u0, hu6, hB⟩ := gB1_some hB
    obtain ⟨v5, s4, hv5, hB⟩ := gB2_some hB
    refine gw_callV (y := yX6_mix) (lw_V q3095 q3097 qs105 q143 q3098) hdV_X6_mix gcl9 hu6 (As := [vI v2]) (rest := []) (m_X6_mix _ _ _ _ _ hv5) (Nat.le_of_ble_eq_true rfl) (Nat.le_of_ble_eq_true rfl) rfl (Nat.le_of_ble_eq_true rfl) dX6_digest_34 (gCont_v ?_)
    refine gw_iinc (w := (1 : Int32)) (L' := [(1, vI (l1 + (1 : Int32))), (0, vR l0)]) 1 rfl (by decide) (Nat.le_of_ble_eq_true rfl) rfl dX6_digest_37 ?_
    refine gw_goto (tgt := 22) dX6_digest_40 (by decide) ?_
    exact gw_sub [1, 0] rfl (hk22 _ _ _ hB)
theorem w_X6_digest_22 {E : gE} {F z0 n0 : Nat} {r : Int64} {s' : gS}   : ∀ (n : Nat) (l0 : Option Nat) (l1 : Int32)  (s : gS), f_X6_digest_22 (gk E) F  n l0 l1 s = some (r, s') → W_X6_digest E z0 n0 r s' 22 [(0, vR l0), (1, vI l1)] [] s := by
  intro n
  induction n with
  | zero => intro l0 l1 s hB; cases hB
  | succ n ih => intro l0 l1 s hB; exact w_X6_digest_22b ih l0 l1 s hB
noncomputable def f_X6_digest_0 (κ : gK) (F : Nat)  (l0 : Option Nat) (s : gS) : Option (Int64 × gS) :=
  gB1 (gpf κ s l0 9 6 (.int (0 : Int32))) fun s1 =>
  gB1 (gpf κ s1 l0 9 12 (.long (43518 : Int64))) fun s2 =>
  gB1 (gfI s2 l0 9 3) fun v3 =>
  gB1 (gck s2 l0 9) fun _ =>
  gB2 (f_X6_mix κ F l0 v3 s2) fun v5 s4 =>
  f_X6_digest_22 κ F  F l0 (0 : Int32) s4
set_option maxHeartbeats 4000000 in
theorem w_X6_digest_0 {E : gE} {F z0 n0 : Nat} {r : Int64} {s' : gS}   : ∀ (l0 : Option Nat)  (s : gS), f_X6_digest_0 (gk E) F  l0 s = some (r, s') → W_X6_digest E z0 n0 r s' 0 [(0, vR l0)] [] s := by
  intro l0 s hB
  unfold f_X6_digest_0 at hB
  refine gw_aload_n 0 rfl dX6_digest_0 ?_
  refine gw_iconst (v := (0 : Int32)) (by decide) dX6_digest_1 ?_
  obtain ⟨s1, hs1, hB⟩ := gB1_some hB
  refine gw_putf (C := RX6) (T := TX6) (N := 13) (k := 6) tyX6 tyX6_ok nmX6 gcl9 (by decide) in_X6 q2700 rfl (tyX6_ok 6 (by decide)) (gNF_i _) hs1 dX6_digest_2 ?_
  refine gw_aload_n 0 rfl dX6_digest_5 ?_
  refine gw_ldc2 (43518 : Int64) q3094 dX6_digest_6 ?_
  obtain ⟨s2, hs2, hB⟩ := gB1_some hB
  refine gw_putf (C := RX6) (T := TX6) (N := 13) (k := 12) tyX6 tyX6_ok nmX6 gcl9 (by decide) in_X6 q2706 rfl (tyX6_ok 12 (by decide)) (gNF_j _) hs2 dX6_digest_9 ?_
  refine gw_aload_n 0 rfl dX6_digest_12 ?_
  refine gw_aload_n 0 rfl dX6_digest_13 ?_
  obtain ⟨v3, hv3, hB⟩ := gB1_some hB
  refine gw_getf (C := RX6) (T := TX6) (N := 13) (k := 3) gcl9 (by decide) in_X6 q2697 (gfI_spec hv3) dX6_digest_14 ?_
  obtain ⟨u0, hu6, hB⟩ := gB1_some hB
  obtain ⟨v5, s4, hv5, hB⟩ := gB2_some hB
  refine gw_callV (y := yX6_mix) (lw_V q3095 q3097 qs105 q143 q3098) hdV_X6_mix gcl9 hu6 (As := [vI v3]) (rest := []) (m_X6_mix _ _ _ _ _ hv5) (Nat.le_of_ble_eq_true rfl) (Nat.le_of_ble_eq_true rfl) rfl (Nat.le_of_ble_eq_true rfl) dX6_digest_17 (gCont_v ?_)
  refine gw_iconst (v := (0 : Int32)) (by decide) dX6_digest_20 ?_
  refine gw_istore_n (L' := [(1, vI (0 : Int32)), (0, vR l0)]) (Nat.le_of_ble_eq_true rfl) rfl dX6_digest_21 ?_
  exact gw_sub [1, 0] rfl (w_X6_digest_22  F _ _ _ hB)
noncomputable def f_X6_digest (κ : gK) (F : Nat) (a0 : Option Nat) (s : gS) : Option (Int64 × gS) := f_X6_digest_0 κ F a0 s
theorem m_X6_digest {E : gE} {F : Nat} (a0 : Option Nat) (s : gS) (r : Int64) (s' : gS) (h : f_X6_digest (gk E) F a0 s = some (r, s')) : gCT E 7 yX6_digest (ws_ yX6_digest cX6_digest 3 (some FieldType.long)) [vR a0] s (.inl (some (vJ r))) s' := by
  refine gCT_of2 (fun h => absurd h (by decide)) (plainFor_of_name (by decide)) (Nat.le_of_ble_eq_true rfl) ?_
  exact gw_sub [0] rfl (w_X6_digest_0 _ _ h)
def dkwX2_init_0 : List UInt8 := [42, 183, 0, 1, 42, 27, 181, 0, 7, 177]
abbrev dktX2_init_0 : List UInt8 := dkwX2_init_0 ++ []
theorem dksX2_init_0 : cX2_init.data.toList.drop 0 = dktX2_init_0 := by decide +kernel
theorem dX2_init_0 : decode cX2_init 0 = .ok (.aload_n 0, 1) := dk_42 (dk_at dksX2_init_0 0 rfl rfl)
theorem dX2_init_1 : decode cX2_init 1 = .ok (.invokespecial 1, 3) := dk_183 0 1 (dk_at dksX2_init_0 1 rfl rfl)
theorem dX2_init_4 : decode cX2_init 4 = .ok (.aload_n 0, 1) := dk_42 (dk_at dksX2_init_0 4 rfl rfl)
theorem dX2_init_5 : decode cX2_init 5 = .ok (.iload_n 1, 1) := dk_27 (dk_at dksX2_init_0 5 rfl rfl)
theorem dX2_init_6 : decode cX2_init 6 = .ok (.putfield 7, 3) := dk_181 0 7 (dk_at dksX2_init_0 6 rfl rfl)
theorem dX2_init_9 : decode cX2_init 9 = .ok (.return_, 1) := dk_177 (dk_at dksX2_init_0 9 rfl rfl)
/-! PageGarden$Bed.<init>(I)V -/
abbrev M_X2_init (z0 n0 : Nat) (s' : gS) : gM := (RX2, cX2_init, 2, none, "<init>", [], 1, z0, n0, s'.2.1, s'.2.2)
abbrev W_X2_init (E : gE) (z0 n0 : Nat) (r : Unit) (s' : gS) (pc : Nat) (L : List (Nat × gV)) (st : List gV) (s : gS) : Prop := gW E (M_X2_init z0 n0 s') (gQm E (M_X2_init z0 n0 s') (.inl none) s') pc L st s
noncomputable def f_X2_init_0 (κ : gK) (F : Nat)  (l0 : Option Nat) (l1 : Int32) (s : gS) : Option (Unit × gS) :=
  gB1 (gsm l0) fun _ =>
  gB1 (gpf κ s l0 1 0 (.int l1)) fun s2 =>
  some ((), s2)
set_option maxHeartbeats 4000000 in
theorem w_X2_init_0 {E : gE} {F z0 n0 : Nat} {r : Unit} {s' : gS}   : ∀ (l0 : Option Nat) (l1 : Int32)  (s : gS), f_X2_init_0 (gk E) F  l0 l1 s = some (r, s') → W_X2_init E z0 n0 r s' 0 [(0, vR l0), (1, vI l1)] [] s := by
  intro l0 l1 s hB
  unfold f_X2_init_0 at hB
  refine gw_aload_n 0 rfl dX2_init_0 ?_
  obtain ⟨u0, hu1, hB⟩ := gB1_some hB
  refine gw_objInit (gsm_spec hu1) q183 q172 q173 (Nat.le_of_ble_eq_true rfl) (Nat.le_of_ble_eq_true rfl) dX2_init_1 ?_
  refine gw_aload_n 0 rfl dX2_init_4 ?_
  refine gw_iload_n 1 rfl dX2_init_5 ?_
  obtain ⟨s2, hs2, hB⟩ := gB1_some hB
  refine gw_putfF (C := RX2) (T := TX2) (N := 1) (k := 0) tyX2 tyX2_ok nmX2 gcl1 (by decide) in_X2 q184 rfl rfl rfl (tyX2_ok 0 (by decide)) (gNF_i _) hs2 dX2_init_6 ?_
  obtain ⟨rfl, rfl⟩ := Prod.mk.inj (Option.some.inj hB)
  exact gw_vret rfl rfl rfl dX2_init_9
noncomputable def f_X2_init (κ : gK) (F : Nat) (a0 : Option Nat) (a1 : Int32) (s : gS) : Option (Unit × gS) := f_X2_init_0 κ F a0 a1 s
theorem m_X2_init {E : gE} {F : Nat} (a0 : Option Nat) (a1 : Int32) (s : gS) (r : Unit) (s' : gS) (h : f_X2_init (gk E) F a0 a1 s = some (r, s')) : gCT E 1 yX2_init (ws_ yX2_init cX2_init 2 none) [vR a0, vI a1] s (.inl none) s' := by
  refine gCT_of2 (fun h => absurd h (by decide)) (plainFor_of_name (by decide)) (Nat.le_of_ble_eq_true rfl) ?_
  exact gw_sub [0, 1] rfl (w_X2_init_0 _ _ _ h)
def dkwX2_equals_1 : List UInt8 := [167, 0, 4, 3, 172]
abbrev dktX2_equals_1 : List UInt8 := dkwX2_equals_1 ++ []
def dkwX2_equals_0 : List UInt8 := [43, 193, 0, 8, 153, 0, 23, 43, 192, 0, 8, 77, 44, 180, 0, 7, 42, 180, 0, 7, 160, 0, 7, 4]
abbrev dktX2_equals_0 : List UInt8 := dkwX2_equals_0 ++ dktX2_equals_1
theorem dksX2_equals_0 : cX2_equals.data.toList.drop 0 = dktX2_equals_0 := by decide +kernel
theorem dksX2_equals_1 : cX2_equals.data.toList.drop 24 = dktX2_equals_1 := dk_seg dksX2_equals_0 24 rfl rfl
theorem dX2_equals_0 : decode cX2_equals 0 = .ok (.aload_n 1, 1) := dk_43 (dk_at dksX2_equals_0 0 rfl rfl)
theorem dX2_equals_1 : decode cX2_equals 1 = .ok (.instanceof 8, 3) := dk_193 0 8 (dk_at dksX2_equals_0 1 rfl rfl)
theorem dX2_equals_4 : decode cX2_equals 4 = .ok (.ifCond .eq 23, 3) := dk_153 0 23 (dk_at dksX2_equals_0 4 rfl rfl)
theorem dX2_equals_7 : decode cX2_equals 7 = .ok (.aload_n 1, 1) := dk_43 (dk_at dksX2_equals_0 7 rfl rfl)
theorem dX2_equals_8 : decode cX2_equals 8 = .ok (.checkcast 8, 3) := dk_192 0 8 (dk_at dksX2_equals_0 8 rfl rfl)
theorem dX2_equals_11 : decode cX2_equals 11 = .ok (.astore_n 2, 1) := dk_77 (dk_at dksX2_equals_0 11 rfl rfl)
theorem dX2_equals_12 : decode cX2_equals 12 = .ok (.aload_n 2, 1) := dk_44 (dk_at dksX2_equals_0 12 rfl rfl)
theorem dX2_equals_13 : decode cX2_equals 13 = .ok (.getfield 7, 3) := dk_180 0 7 (dk_at dksX2_equals_0 13 rfl rfl)
theorem dX2_equals_16 : decode cX2_equals 16 = .ok (.aload_n 0, 1) := dk_42 (dk_at dksX2_equals_0 16 rfl rfl)
theorem dX2_equals_17 : decode cX2_equals 17 = .ok (.getfield 7, 3) := dk_180 0 7 (dk_at dksX2_equals_0 17 rfl rfl)
theorem dX2_equals_20 : decode cX2_equals 20 = .ok (.if_icmp .ne 7, 3) := dk_160 0 7 (dk_at dksX2_equals_0 20 rfl rfl)
theorem dX2_equals_23 : decode cX2_equals 23 = .ok (.iconst 1, 1) := dk_4 (dk_at dksX2_equals_0 23 rfl rfl)
theorem dX2_equals_24 : decode cX2_equals 24 = .ok (.goto 4, 3) := dk_167 0 4 (dk_at dksX2_equals_1 0 rfl rfl)
theorem dX2_equals_27 : decode cX2_equals 27 = .ok (.iconst 0, 1) := dk_3 (dk_at dksX2_equals_1 3 rfl rfl)
theorem dX2_equals_28 : decode cX2_equals 28 = .ok (.ireturn, 1) := dk_172 (dk_at dksX2_equals_1 4 rfl rfl)
/-! PageGarden$Bed.equals(Ljava/lang/Object;)Z -/
abbrev M_X2_equals (z0 n0 : Nat) (s' : gS) : gM := (RX2, cX2_equals, 3, (some FieldType.boolean), "equals", [], 1, z0, n0, s'.2.1, s'.2.2)
abbrev W_X2_equals (E : gE) (z0 n0 : Nat) (r : Int32) (s' : gS) (pc : Nat) (L : List (Nat × gV)) (st : List gV) (s : gS) : Prop := gW E (M_X2_equals z0 n0 s') (gQm E (M_X2_equals z0 n0 s') (.inl (some (vI r))) s') pc L st s
noncomputable def f_X2_equals_28 (κ : gK) (F : Nat)  (t0 : Int32) (s : gS) : Option (Int32 × gS) :=
  gB1 (gok .boolean t0) fun _ => some (t0, s)
set_option maxHeartbeats 4000000 in
theorem w_X2_equals_28 {E : gE} {F z0 n0 : Nat} {r : Int32} {s' : gS}   : ∀  (t0 : Int32) (s : gS), f_X2_equals_28 (gk E) F  t0 s = some (r, s') → W_X2_equals E z0 n0 r s' 28 [] [vI t0] s := by
  intro t0 s hB
  unfold f_X2_equals_28 at hB
  obtain ⟨u, hu, hB⟩ := gB1_some hB
  obtain ⟨rfl, rfl⟩ := Prod.mk.inj (Option.some.inj hB)
  exact gw_zret rfl hu rfl rfl dX2_equals_28
noncomputable def f_X2_equals_27 (κ : gK) (F : Nat)   (s : gS) : Option (Int32 × gS) :=
  f_X2_equals_28 κ F  (0 : Int32) s
set_option maxHeartbeats 4000000 in
theorem w_X2_equals_27 {E : gE} {F z0 n0 : Nat} {r : Int32} {s' : gS}   : ∀   (s : gS), f_X2_equals_27 (gk E) F   s = some (r, s') → W_X2_equals E z0 n0 r s' 27 [] [] s := by
  intro  s hB
  unfold f_X2_equals_27 at hB
  refine gw_iconst (v := (0 : Int32)) (by decide) dX2_equals_27 ?_
  exact gw_sub [] rfl (w_X2_equals_28  _ _ hB)
noncomputable def f_X2_equals_0 (κ : gK) (F : Nat)  (l0 : Option Nat) (l1 : Option Nat) (s : gS) : Option (Int32 × gS) :=
  gB1 (gio s l1 [1] []) fun v1 =>
  if v1 = 0 then
    f_X2_equals_27 κ F  s
  else
    gB1 (gcc s l1 1) fun _ =>
    gB1 (gfI s l1 1 0) fun v3 =>
    gB1 (gfI s l0 1 0) fun v4 =>
    if v3 = v4 then
      f_X2_equals_28 κ F  (1 : Int32) s
    else
      f_X2_equals_27 κ F  s
set_option maxHeartbeats 4000000 in
theorem w_X2_equals_0 {E : gE} {F z0 n0 : Nat} {r : Int32} {s' : gS}   : ∀ (l0 : Option Nat) (l1 : Option Nat)  (s : gS), f_X2_equals_0 (gk E) F  l0 l1 s = some (r, s') → W_X2_equals E z0 n0 r s' 0 [(0, vR l0), (1, vR l1)] [] s := by
  intro l0 l1 s hB
  unfold f_X2_equals_0 at hB
  refine gw_aload_n 1 rfl dX2_equals_0 ?_
  obtain ⟨v1, hv1, hB⟩ := gB1_some hB
  refine gw_inst (ys := [1]) (ns := []) gisY_PageGarden_Bed gisN_PageGarden_Bed hv1 q1134 dX2_equals_1 ?_
  refine gw_if_eq (tgt := 27) dX2_equals_4 (by decide) (fun hcnd => ?_) (fun hcnd => ?_)
  · rw [if_pos hcnd] at hB
    exact gw_sub [] rfl (w_X2_equals_27   _ hB)
  · rw [if_neg hcnd] at hB
    refine gw_aload_n 1 rfl dX2_equals_7 ?_
    obtain ⟨u0, hu2, hB⟩ := gB1_some hB
    refine gw_cast (C := RX2) gcl1 hu2 q1134 (Or.inl rfl) dX2_equals_8 ?_
    refine gw_astore_n (L' := [(2, vR l1), (0, vR l0), (1, vR l1)]) (Nat.le_of_ble_eq_true rfl) rfl dX2_equals_11 ?_
    refine gw_aload_n 0 rfl dX2_equals_12 ?_
    obtain ⟨v3, hv3, hB⟩ := gB1_some hB
    refine gw_getf (C := RX2) (T := TX2) (N := 1) (k := 0) gcl1 (by decide) in_X2 q184 (gfI_spec hv3) dX2_equals_13 ?_
    refine gw_aload_n 1 rfl dX2_equals_16 ?_
    obtain ⟨v4, hv4, hB⟩ := gB1_some hB
    refine gw_getf (C := RX2) (T := TX2) (N := 1) (k := 0) gcl1 (by decide) in_X2 q184 (gfI_spec hv4) dX2_equals_17 ?_
    refine gw_icmp_ne (tgt := 27) dX2_equals_20 (by decide) (fun hcnd => ?_) (fun hcnd => ?_)
    · rw [if_neg hcnd] at hB
      exact gw_sub [] rfl (w_X2_equals_27   _ hB)
    · rw [if_pos hcnd] at hB
      refine gw_iconst (v := (1 : Int32)) (by decide) dX2_equals_23 ?_
      refine gw_goto (tgt := 28) dX2_equals_24 (by decide) ?_
      exact gw_sub [] rfl (w_X2_equals_28  _ _ hB)
noncomputable def f_X2_equals (κ : gK) (F : Nat) (a0 : Option Nat) (a1 : Option Nat) (s : gS) : Option (Int32 × gS) := f_X2_equals_0 κ F a0 a1 s
theorem m_X2_equals {E : gE} {F : Nat} (a0 : Option Nat) (a1 : Option Nat) (s : gS) (r : Int32) (s' : gS) (h : f_X2_equals (gk E) F a0 a1 s = some (r, s')) : gCT E 1 yX2_equals (ws_ yX2_equals cX2_equals 3 (some FieldType.boolean)) [vR a0, vR a1] s (.inl (some (vI r))) s' := by
  refine gCT_of2 (fun h => absurd h (by decide)) (plainFor_of_name (by decide)) (Nat.le_of_ble_eq_true rfl) ?_
  exact gw_sub [0, 1] rfl (w_X2_equals_0 _ _ _ h)
theorem dX2_hashCode_0 : decode cX2_hashCode 0 = .ok (.aload_n 0, 1) := by decide +kernel
theorem dX2_hashCode_1 : decode cX2_hashCode 1 = .ok (.getfield 7, 3) := by decide +kernel
theorem dX2_hashCode_4 : decode cX2_hashCode 4 = .ok (.ireturn, 1) := by decide +kernel
/-! PageGarden$Bed.hashCode()I -/
abbrev M_X2_hashCode (z0 n0 : Nat) (s' : gS) : gM := (RX2, cX2_hashCode, 1, (some FieldType.int), "hashCode", [], 1, z0, n0, s'.2.1, s'.2.2)
abbrev W_X2_hashCode (E : gE) (z0 n0 : Nat) (r : Int32) (s' : gS) (pc : Nat) (L : List (Nat × gV)) (st : List gV) (s : gS) : Prop := gW E (M_X2_hashCode z0 n0 s') (gQm E (M_X2_hashCode z0 n0 s') (.inl (some (vI r))) s') pc L st s
noncomputable def f_X2_hashCode_0 (κ : gK) (F : Nat)  (l0 : Option Nat) (s : gS) : Option (Int32 × gS) :=
  gB1 (gfI s l0 1 0) fun v1 =>
  some (v1, s)
set_option maxHeartbeats 4000000 in
theorem w_X2_hashCode_0 {E : gE} {F z0 n0 : Nat} {r : Int32} {s' : gS}   : ∀ (l0 : Option Nat)  (s : gS), f_X2_hashCode_0 (gk E) F  l0 s = some (r, s') → W_X2_hashCode E z0 n0 r s' 0 [(0, vR l0)] [] s := by
  intro l0 s hB
  unfold f_X2_hashCode_0 at hB
  refine gw_aload_n 0 rfl dX2_hashCode_0 ?_
  obtain ⟨v1, hv1, hB⟩ := gB1_some hB
  refine gw_getf (C := RX2) (T := TX2) (N := 1) (k := 0) gcl1 (by decide) in_X2 q184 (gfI_spec hv1) dX2_hashCode_1 ?_
  obtain ⟨rfl, rfl⟩ := Prod.mk.inj (Option.some.inj hB)
  exact gw_iret rfl rfl rfl dX2_hashCode_4
noncomputable def f_X2_hashCode (κ : gK) (F : Nat) (a0 : Option Nat) (s : gS) : Option (Int32 × gS) := f_X2_hashCode_0 κ F a0 s
theorem m_X2_hashCode {E : gE} {F : Nat} (a0 : Option Nat) (s : gS) (r : Int32) (s' : gS) (h : f_X2_hashCode (gk E) F a0 s = some (r, s')) : gCT E 1 yX2_hashCode (ws_ yX2_hashCode cX2_hashCode 1 (some FieldType.int)) [vR a0] s (.inl (some (vI r))) s' := by
  refine gCT_of2 (fun h => absurd h (by decide)) (plainFor_of_name (by decide)) (Nat.le_of_ble_eq_true rfl) ?_
  exact gw_sub [0] rfl (w_X2_hashCode_0 _ _ h)
def dkwX5_init_0 : List UInt8 := [42, 183, 0, 1, 42, 43, 181, 0, 7, 177]
abbrev dktX5_init_0 : List UInt8 := dkwX5_init_0 ++ []
theorem dksX5_init_0 : cX5_init.data.toList.drop 0 = dktX5_init_0 := by decide +kernel
theorem dX5_init_0 : decode cX5_init 0 = .ok (.aload_n 0, 1) := dk_42 (dk_at dksX5_init_0 0 rfl rfl)
theorem dX5_init_1 : decode cX5_init 1 = .ok (.invokespecial 1, 3) := dk_183 0 1 (dk_at dksX5_init_0 1 rfl rfl)
theorem dX5_init_4 : decode cX5_init 4 = .ok (.aload_n 0, 1) := dk_42 (dk_at dksX5_init_0 4 rfl rfl)
theorem dX5_init_5 : decode cX5_init 5 = .ok (.aload_n 1, 1) := dk_43 (dk_at dksX5_init_0 5 rfl rfl)
theorem dX5_init_6 : decode cX5_init 6 = .ok (.putfield 7, 3) := dk_181 0 7 (dk_at dksX5_init_0 6 rfl rfl)
theorem dX5_init_9 : decode cX5_init 9 = .ok (.return_, 1) := dk_177 (dk_at dksX5_init_0 9 rfl rfl)
/-! PageGarden$Directory.<init>([I)V -/
abbrev M_X5_init (z0 n0 : Nat) (s' : gS) : gM := (RX5, cX5_init, 2, none, "<init>", [], 1, z0, n0, s'.2.1, s'.2.2)
abbrev W_X5_init (E : gE) (z0 n0 : Nat) (r : Unit) (s' : gS) (pc : Nat) (L : List (Nat × gV)) (st : List gV) (s : gS) : Prop := gW E (M_X5_init z0 n0 s') (gQm E (M_X5_init z0 n0 s') (.inl none) s') pc L st s
noncomputable def f_X5_init_0 (κ : gK) (F : Nat)  (l0 : Option Nat) (l1 : Option Nat) (s : gS) : Option (Unit × gS) :=
  gB1 (gsm l0) fun _ =>
  gB1 (gpf κ s l0 3 0 (va_rf l1)) fun s2 =>
  some ((), s2)
set_option maxHeartbeats 4000000 in
theorem w_X5_init_0 {E : gE} {F z0 n0 : Nat} {r : Unit} {s' : gS}   : ∀ (l0 : Option Nat) (l1 : Option Nat)  (s : gS), f_X5_init_0 (gk E) F  l0 l1 s = some (r, s') → W_X5_init E z0 n0 r s' 0 [(0, vR l0), (1, vR l1)] [] s := by
  intro l0 l1 s hB
  unfold f_X5_init_0 at hB
  refine gw_aload_n 0 rfl dX5_init_0 ?_
  obtain ⟨u0, hu1, hB⟩ := gB1_some hB
  refine gw_objInit (gsm_spec hu1) q319 q172 q173 (Nat.le_of_ble_eq_true rfl) (Nat.le_of_ble_eq_true rfl) dX5_init_1 ?_
  refine gw_aload_n 0 rfl dX5_init_4 ?_
  refine gw_aload_n 1 rfl dX5_init_5 ?_
  obtain ⟨s2, hs2, hB⟩ := gB1_some hB
  refine gw_putfF (C := RX5) (T := TX5) (N := 1) (k := 0) tyX5 tyX5_ok nmX5 gcl3 (by decide) in_X5 q320 rfl rfl rfl (tyX5_ok 0 (by decide)) (gNF_a _ _) hs2 dX5_init_6 ?_
  obtain ⟨rfl, rfl⟩ := Prod.mk.inj (Option.some.inj hB)
  exact gw_vret rfl rfl rfl dX5_init_9
noncomputable def f_X5_init (κ : gK) (F : Nat) (a0 : Option Nat) (a1 : Option Nat) (s : gS) : Option (Unit × gS) := f_X5_init_0 κ F a0 a1 s
theorem m_X5_init {E : gE} {F : Nat} (a0 : Option Nat) (a1 : Option Nat) (s : gS) (r : Unit) (s' : gS) (h : f_X5_init (gk E) F a0 a1 s = some (r, s')) : gCT E 1 yX5_init (ws_ yX5_init cX5_init 2 none) [vR a0, vR a1] s (.inl none) s' := by
  refine gCT_of2 (fun h => absurd h (by decide)) (plainFor_of_name (by decide)) (Nat.le_of_ble_eq_true rfl) ?_
  exact gw_sub [0, 1] rfl (w_X5_init_0 _ _ _ h)
def dkwX5_instead_0 : List UInt8 := [42, 180, 0, 7, 182, 0, 22, 192, 0, 23, 78, 45, 27, 28, 79, 187, 0, 8, 89, 45, 183, 0, 19, 176]
abbrev dktX5_instead_0 : List UInt8 := dkwX5_instead_0 ++ []
theorem dksX5_instead_0 : cX5_instead.data.toList.drop 0 = dktX5_instead_0 := by decide +kernel
theorem dX5_instead_0 : decode cX5_instead 0 = .ok (.aload_n 0, 1) := dk_42 (dk_at dksX5_instead_0 0 rfl rfl)
theorem dX5_instead_1 : decode cX5_instead 1 = .ok (.getfield 7, 3) := dk_180 0 7 (dk_at dksX5_instead_0 1 rfl rfl)
theorem dX5_instead_4 : decode cX5_instead 4 = .ok (.invokevirtual 22, 3) := dk_182 0 22 (dk_at dksX5_instead_0 4 rfl rfl)
theorem dX5_instead_7 : decode cX5_instead 7 = .ok (.checkcast 23, 3) := dk_192 0 23 (dk_at dksX5_instead_0 7 rfl rfl)
theorem dX5_instead_10 : decode cX5_instead 10 = .ok (.astore_n 3, 1) := dk_78 (dk_at dksX5_instead_0 10 rfl rfl)
theorem dX5_instead_11 : decode cX5_instead 11 = .ok (.aload_n 3, 1) := dk_45 (dk_at dksX5_instead_0 11 rfl rfl)
theorem dX5_instead_12 : decode cX5_instead 12 = .ok (.iload_n 1, 1) := dk_27 (dk_at dksX5_instead_0 12 rfl rfl)
theorem dX5_instead_13 : decode cX5_instead 13 = .ok (.iload_n 2, 1) := dk_28 (dk_at dksX5_instead_0 13 rfl rfl)
theorem dX5_instead_14 : decode cX5_instead 14 = .ok (.iastore, 1) := dk_79 (dk_at dksX5_instead_0 14 rfl rfl)
theorem dX5_instead_15 : decode cX5_instead 15 = .ok (.new 8, 3) := dk_187 0 8 (dk_at dksX5_instead_0 15 rfl rfl)
theorem dX5_instead_18 : decode cX5_instead 18 = .ok (.dup, 1) := dk_89 (dk_at dksX5_instead_0 18 rfl rfl)
theorem dX5_instead_19 : decode cX5_instead 19 = .ok (.aload_n 3, 1) := dk_45 (dk_at dksX5_instead_0 19 rfl rfl)
theorem dX5_instead_20 : decode cX5_instead 20 = .ok (.invokespecial 19, 3) := dk_183 0 19 (dk_at dksX5_instead_0 20 rfl rfl)
theorem dX5_instead_23 : decode cX5_instead 23 = .ok (.areturn, 1) := dk_176 (dk_at dksX5_instead_0 23 rfl rfl)
/-! PageGarden$Directory.instead(II)LPageGarden$Directory; -/
abbrev M_X5_instead (z0 n0 : Nat) (s' : gS) : gM := (RX5, cX5_instead, 4, (some (FieldType.object "PageGarden$Directory")), "instead", [], 2, z0, n0, s'.2.1, s'.2.2)
abbrev W_X5_instead (E : gE) (z0 n0 : Nat) (r : (Option Nat)) (s' : gS) (pc : Nat) (L : List (Nat × gV)) (st : List gV) (s : gS) : Prop := gW E (M_X5_instead z0 n0 s') (gQm E (M_X5_instead z0 n0 s') (.inl (some (vR r))) s') pc L st s
noncomputable def f_X5_instead_0 (κ : gK) (F : Nat)  (l0 : Option Nat) (l1 : Int32) (l2 : Int32) (s : gS) : Option ((Option Nat) × gS) :=
  gB1 (gfR s l0 3 0) fun v1 =>
  gB2 (gcln κ s 0 v1) fun v2 s3 =>
  gB1 (gct s3 v2 0) fun _ =>
  gB1 (gsI κ s3 v2 l1 l2) fun s5 =>
  gB2 (gnw s5 3 g0_X5 1) fun v6 s7 =>
  gB1 (gsm v6) fun _ =>
  gB2 (f_X5_init κ F v6 v2 s7) fun v9 s8 =>
  some (v6, s8)
set_option maxHeartbeats 4000000 in
theorem w_X5_instead_0 {E : gE} {F z0 n0 : Nat} {r : (Option Nat)} {s' : gS}   : ∀ (l0 : Option Nat) (l1 : Int32) (l2 : Int32)  (s : gS), f_X5_instead_0 (gk E) F  l0 l1 l2 s = some (r, s') → W_X5_instead E z0 n0 r s' 0 [(0, vR l0), (1, vI l1), (2, vI l2)] [] s := by
  intro l0 l1 l2 s hB
  unfold f_X5_instead_0 at hB
  refine gw_aload_n 0 rfl dX5_instead_0 ?_
  obtain ⟨v1, hv1, hB⟩ := gB1_some hB
  refine gw_getf (C := RX5) (T := TX5) (N := 1) (k := 0) gcl3 (by decide) in_X5 q320 (gfR_spec hv1) dX5_instead_1 ?_
  obtain ⟨v2, s3, hv2, hB⟩ := gB2_some hB
  refine gw_clone (t := 0) (ad := "[I") rfl rfl (by decide) q2210 q1415 q552 q553 q1416 q1417 (Nat.le_of_ble_eq_true rfl) (Nat.le_of_ble_eq_true rfl) hv2 dX5_instead_4 ?_
  obtain ⟨u0, hu4, hB⟩ := gB1_some hB
  refine gw_castA (t := 0) rfl (by decide) hu4 q2211 dX5_instead_7 ?_
  refine gw_astore_n (L' := [(3, vR v2), (0, vR l0), (1, vI l1), (2, vI l2)]) (Nat.le_of_ble_eq_true rfl) rfl dX5_instead_10 ?_
  refine gw_aload_n 0 rfl dX5_instead_11 ?_
  refine gw_iload_n 2 rfl dX5_instead_12 ?_
  refine gw_iload_n 3 rfl dX5_instead_13 ?_
  obtain ⟨s5, hs5, hB⟩ := gB1_some hB
  refine gw_iastore hs5 dX5_instead_14 ?_
  obtain ⟨v6, s7, hv6, hB⟩ := gB2_some hB
  refine gw_new (C := RX5) (T := TX5) (N := 1) tyX5 tyX5_ok gcl3 in_X5 q2183 q315 q117 g0_X5_ok hv6 dX5_instead_15 ?_
  refine gw_dup rfl dX5_instead_18 ?_
  refine gw_aload_n 0 rfl dX5_instead_19 ?_
  obtain ⟨u0, hu10, hB⟩ := gB1_some hB
  obtain ⟨v9, s8, hv9, hB⟩ := gB2_some hB
  refine gw_callI (y := yX5_init) (lw_meth q318) q117 q2187 q317 rfl hdS_X5_init (gsm_spec hu10) (As := [vR v2]) (rest := [vR v6]) (m_X5_init _ _ _ _ _ hv9) (Nat.le_of_ble_eq_true rfl) (Nat.le_of_ble_eq_true rfl) rfl (Nat.le_of_ble_eq_true rfl) dX5_instead_20 (gCont_v ?_)
  obtain ⟨rfl, rfl⟩ := Prod.mk.inj (Option.some.inj hB)
  exact gw_aret rfl (Or.inl ⟨_, rfl⟩) rfl rfl dX5_instead_23
noncomputable def f_X5_instead (κ : gK) (F : Nat) (a0 : Option Nat) (a1 : Int32) (a2 : Int32) (s : gS) : Option ((Option Nat) × gS) := f_X5_instead_0 κ F a0 a1 a2 s
theorem m_X5_instead {E : gE} {F : Nat} (a0 : Option Nat) (a1 : Int32) (a2 : Int32) (s : gS) (r : (Option Nat)) (s' : gS) (h : f_X5_instead (gk E) F a0 a1 a2 s = some (r, s')) : gCT E 2 yX5_instead (ws_ yX5_instead cX5_instead 4 (some (FieldType.object "PageGarden$Directory"))) [vR a0, vI a1, vI a2] s (.inl (some (vR r))) s' := by
  refine gCT_of2 (fun h => absurd h (by decide)) (plainFor_of_name (by decide)) (Nat.le_of_ble_eq_true rfl) ?_
  exact gw_sub [0, 1, 2] rfl (w_X5_instead_0 _ _ _ _ h)
theorem dX5_kind_0 : decode cX5_kind 0 = .ok (.iconst 1, 1) := by decide +kernel
theorem dX5_kind_1 : decode cX5_kind 1 = .ok (.ireturn, 1) := by decide +kernel
/-! PageGarden$Directory.kind()I -/
abbrev M_X5_kind (z0 n0 : Nat) (s' : gS) : gM := (RX5, cX5_kind, 1, (some FieldType.int), "kind", [], 1, z0, n0, s'.2.1, s'.2.2)
abbrev W_X5_kind (E : gE) (z0 n0 : Nat) (r : Int32) (s' : gS) (pc : Nat) (L : List (Nat × gV)) (st : List gV) (s : gS) : Prop := gW E (M_X5_kind z0 n0 s') (gQm E (M_X5_kind z0 n0 s') (.inl (some (vI r))) s') pc L st s
noncomputable def f_X5_kind_0 (κ : gK) (F : Nat)   (s : gS) : Option (Int32 × gS) :=
  some ((1 : Int32), s)
set_option maxHeartbeats 4000000 in
theorem w_X5_kind_0 {E : gE} {F z0 n0 : Nat} {r : Int32} {s' : gS}   : ∀   (s : gS), f_X5_kind_0 (gk E) F   s = some (r, s') → W_X5_kind E z0 n0 r s' 0 [] [] s := by
  intro  s hB
  unfold f_X5_kind_0 at hB
  refine gw_iconst (v := (1 : Int32)) (by decide) dX5_kind_0 ?_
  obtain ⟨rfl, rfl⟩ := Prod.mk.inj (Option.some.inj hB)
  exact gw_iret rfl rfl rfl dX5_kind_1
noncomputable def f_X5_kind (κ : gK) (F : Nat) (a0 : Option Nat) (s : gS) : Option (Int32 × gS) := f_X5_kind_0 κ F  s
theorem m_X5_kind {E : gE} {F : Nat} (a0 : Option Nat) (s : gS) (r : Int32) (s' : gS) (h : f_X5_kind (gk E) F a0 s = some (r, s')) : gCT E 1 yX5_kind (ws_ yX5_kind cX5_kind 1 (some FieldType.int)) [vR a0] s (.inl (some (vI r))) s' := by
  refine gCT_of2 (fun h => absurd h (by decide)) (plainFor_of_name (by decide)) (Nat.le_of_ble_eq_true rfl) ?_
  exact gw_sub [] rfl (w_X5_kind_0  _ h)
def dkwX5_size_0 : List UInt8 := [42, 180, 0, 7, 190, 172]
abbrev dktX5_size_0 : List UInt8 := dkwX5_size_0 ++ []
theorem dksX5_size_0 : cX5_size.data.toList.drop 0 = dktX5_size_0 := by decide +kernel
theorem dX5_size_0 : decode cX5_size 0 = .ok (.aload_n 0, 1) := dk_42 (dk_at dksX5_size_0 0 rfl rfl)
theorem dX5_size_1 : decode cX5_size 1 = .ok (.getfield 7, 3) := dk_180 0 7 (dk_at dksX5_size_0 1 rfl rfl)
theorem dX5_size_4 : decode cX5_size 4 = .ok (.arraylength, 1) := dk_190 (dk_at dksX5_size_0 4 rfl rfl)
theorem dX5_size_5 : decode cX5_size 5 = .ok (.ireturn, 1) := dk_172 (dk_at dksX5_size_0 5 rfl rfl)
/-! PageGarden$Directory.size()I -/
abbrev M_X5_size (z0 n0 : Nat) (s' : gS) : gM := (RX5, cX5_size, 1, (some FieldType.int), "size", [], 1, z0, n0, s'.2.1, s'.2.2)
abbrev W_X5_size (E : gE) (z0 n0 : Nat) (r : Int32) (s' : gS) (pc : Nat) (L : List (Nat × gV)) (st : List gV) (s : gS) : Prop := gW E (M_X5_size z0 n0 s') (gQm E (M_X5_size z0 n0 s') (.inl (some (vI r))) s') pc L st s
noncomputable def f_X5_size_0 (κ : gK) (F : Nat)  (l0 : Option Nat) (s : gS) : Option (Int32 × gS) :=
  gB1 (gfR s l0 3 0) fun v1 =>
  gB1 (gal s v1) fun v2 =>
  some (v2, s)
set_option maxHeartbeats 4000000 in
theorem w_X5_size_0 {E : gE} {F z0 n0 : Nat} {r : Int32} {s' : gS}   : ∀ (l0 : Option Nat)  (s : gS), f_X5_size_0 (gk E) F  l0 s = some (r, s') → W_X5_size E z0 n0 r s' 0 [(0, vR l0)] [] s := by
  intro l0 s hB
  unfold f_X5_size_0 at hB
  refine gw_aload_n 0 rfl dX5_size_0 ?_
  obtain ⟨v1, hv1, hB⟩ := gB1_some hB
  refine gw_getf (C := RX5) (T := TX5) (N := 1) (k := 0) gcl3 (by decide) in_X5 q320 (gfR_spec hv1) dX5_size_1 ?_
  obtain ⟨v2, hv2, hB⟩ := gB1_some hB
  refine gw_alen hv2 dX5_size_4 ?_
  obtain ⟨rfl, rfl⟩ := Prod.mk.inj (Option.some.inj hB)
  exact gw_iret rfl rfl rfl dX5_size_5
noncomputable def f_X5_size (κ : gK) (F : Nat) (a0 : Option Nat) (s : gS) : Option (Int32 × gS) := f_X5_size_0 κ F a0 s
theorem m_X5_size {E : gE} {F : Nat} (a0 : Option Nat) (s : gS) (r : Int32) (s' : gS) (h : f_X5_size (gk E) F a0 s = some (r, s')) : gCT E 1 yX5_size (ws_ yX5_size cX5_size 1 (some FieldType.int)) [vR a0] s (.inl (some (vI r))) s' := by
  refine gCT_of2 (fun h => absurd h (by decide)) (plainFor_of_name (by decide)) (Nat.le_of_ble_eq_true rfl) ?_
  exact gw_sub [0] rfl (w_X5_size_0 _ _ h)
def dkwX9_more_2 : List UInt8 := [100, 46, 79, 132, 4, 1, 167, 255, 213, 45, 176]
abbrev dktX9_more_2 : List UInt8 := dkwX9_more_2 ++ []
def dkwX9_more_1 : List UInt8 := [162, 0, 10, 42, 21, 4, 46, 167, 0, 19, 21, 4, 27, 160, 0, 7, 28, 167, 0, 9, 42, 21, 4, 4]
abbrev dktX9_more_1 : List UInt8 := dkwX9_more_1 ++ dktX9_more_2
def dkwX9_more_0 : List UInt8 := [42, 190, 4, 96, 188, 10, 78, 3, 54, 4, 21, 4, 45, 190, 162, 0, 42, 45, 21, 4, 21, 4, 27]
abbrev dktX9_more_0 : List UInt8 := dkwX9_more_0 ++ dktX9_more_1
theorem dksX9_more_0 : cX9_more.data.toList.drop 0 = dktX9_more_0 := by decide +kernel
theorem dksX9_more_1 : cX9_more.data.toList.drop 23 = dktX9_more_1 := dk_seg dksX9_more_0 23 rfl rfl
theorem dksX9_more_2 : cX9_more.data.toList.drop 47 = dktX9_more_2 := dk_seg dksX9_more_1 24 rfl rfl
theorem dX9_more_0 : decode cX9_more 0 = .ok (.aload_n 0, 1) := dk_42 (dk_at dksX9_more_0 0 rfl rfl)
theorem dX9_more_1 : decode cX9_more 1 = .ok (.arraylength, 1) := dk_190 (dk_at dksX9_more_0 1 rfl rfl)
theorem dX9_more_2 : decode cX9_more 2 = .ok (.iconst 1, 1) := dk_4 (dk_at dksX9_more_0 2 rfl rfl)
theorem dX9_more_3 : decode cX9_more 3 = .ok (.iadd, 1) := dk_96 (dk_at dksX9_more_0 3 rfl rfl)
theorem dX9_more_4 : decode cX9_more 4 = .ok (.newarray .int, 2) := dk_188_10 (dk_at dksX9_more_0 4 rfl rfl)
theorem dX9_more_6 : decode cX9_more 6 = .ok (.astore_n 3, 1) := dk_78 (dk_at dksX9_more_0 6 rfl rfl)
theorem dX9_more_7 : decode cX9_more 7 = .ok (.iconst 0, 1) := dk_3 (dk_at dksX9_more_0 7 rfl rfl)
theorem dX9_more_8 : decode cX9_more 8 = .ok (.istore 4, 2) := dk_54 4 (dk_at dksX9_more_0 8 rfl rfl)
theorem dX9_more_10 : decode cX9_more 10 = .ok (.iload 4, 2) := dk_21 4 (dk_at dksX9_more_0 10 rfl rfl)
theorem dX9_more_12 : decode cX9_more 12 = .ok (.aload_n 3, 1) := dk_45 (dk_at dksX9_more_0 12 rfl rfl)
theorem dX9_more_13 : decode cX9_more 13 = .ok (.arraylength, 1) := dk_190 (dk_at dksX9_more_0 13 rfl rfl)
theorem dX9_more_14 : decode cX9_more 14 = .ok (.if_icmp .ge 42, 3) := dk_162 0 42 (dk_at dksX9_more_0 14 rfl rfl)
theorem dX9_more_17 : decode cX9_more 17 = .ok (.aload_n 3, 1) := dk_45 (dk_at dksX9_more_0 17 rfl rfl)
theorem dX9_more_18 : decode cX9_more 18 = .ok (.iload 4, 2) := dk_21 4 (dk_at dksX9_more_0 18 rfl rfl)
theorem dX9_more_20 : decode cX9_more 20 = .ok (.iload 4, 2) := dk_21 4 (dk_at dksX9_more_0 20 rfl rfl)
theorem dX9_more_22 : decode cX9_more 22 = .ok (.iload_n 1, 1) := dk_27 (dk_at dksX9_more_0 22 rfl rfl)
theorem dX9_more_23 : decode cX9_more 23 = .ok (.if_icmp .ge 10, 3) := dk_162 0 10 (dk_at dksX9_more_1 0 rfl rfl)
theorem dX9_more_26 : decode cX9_more 26 = .ok (.aload_n 0, 1) := dk_42 (dk_at dksX9_more_1 3 rfl rfl)
theorem dX9_more_27 : decode cX9_more 27 = .ok (.iload 4, 2) := dk_21 4 (dk_at dksX9_more_1 4 rfl rfl)
theorem dX9_more_29 : decode cX9_more 29 = .ok (.iaload, 1) := dk_46 (dk_at dksX9_more_1 6 rfl rfl)
theorem dX9_more_30 : decode cX9_more 30 = .ok (.goto 19, 3) := dk_167 0 19 (dk_at dksX9_more_1 7 rfl rfl)
theorem dX9_more_33 : decode cX9_more 33 = .ok (.iload 4, 2) := dk_21 4 (dk_at dksX9_more_1 10 rfl rfl)
theorem dX9_more_35 : decode cX9_more 35 = .ok (.iload_n 1, 1) := dk_27 (dk_at dksX9_more_1 12 rfl rfl)
theorem dX9_more_36 : decode cX9_more 36 = .ok (.if_icmp .ne 7, 3) := dk_160 0 7 (dk_at dksX9_more_1 13 rfl rfl)
theorem dX9_more_39 : decode cX9_more 39 = .ok (.iload_n 2, 1) := dk_28 (dk_at dksX9_more_1 16 rfl rfl)
theorem dX9_more_40 : decode cX9_more 40 = .ok (.goto 9, 3) := dk_167 0 9 (dk_at dksX9_more_1 17 rfl rfl)
theorem dX9_more_43 : decode cX9_more 43 = .ok (.aload_n 0, 1) := dk_42 (dk_at dksX9_more_1 20 rfl rfl)
theorem dX9_more_44 : decode cX9_more 44 = .ok (.iload 4, 2) := dk_21 4 (dk_at dksX9_more_1 21 rfl rfl)
theorem dX9_more_46 : decode cX9_more 46 = .ok (.iconst 1, 1) := dk_4 (dk_at dksX9_more_1 23 rfl rfl)
theorem dX9_more_47 : decode cX9_more 47 = .ok (.isub, 1) := dk_100 (dk_at dksX9_more_2 0 rfl rfl)
theorem dX9_more_48 : decode cX9_more 48 = .ok (.iaload, 1) := dk_46 (dk_at dksX9_more_2 1 rfl rfl)
theorem dX9_more_49 : decode cX9_more 49 = .ok (.iastore, 1) := dk_79 (dk_at dksX9_more_2 2 rfl rfl)
theorem dX9_more_50 : decode cX9_more 50 = .ok (.iinc 4 1, 3) := dk_132 4 1 (dk_at dksX9_more_2 3 rfl rfl)
theorem dX9_more_53 : decode cX9_more 53 = .ok (.goto (-43), 3) := dk_167 255 213 (dk_at dksX9_more_2 6 rfl rfl)
theorem dX9_more_56 : decode cX9_more 56 = .ok (.aload_n 3, 1) := dk_45 (dk_at dksX9_more_2 9 rfl rfl)
theorem dX9_more_57 : decode cX9_more 57 = .ok (.areturn, 1) := dk_176 (dk_at dksX9_more_2 10 rfl rfl)
/-! PageGarden$Leaf.more([III)[I -/
abbrev M_X9_more (z0 n0 : Nat) (s' : gS) : gM := (RX9, cX9_more, 5, (some (FieldType.array FieldType.int)), "more", [], 1, z0, n0, s'.2.1, s'.2.2)
abbrev W_X9_more (E : gE) (z0 n0 : Nat) (r : (Option Nat)) (s' : gS) (pc : Nat) (L : List (Nat × gV)) (st : List gV) (s : gS) : Prop := gW E (M_X9_more z0 n0 s') (gQm E (M_X9_more z0 n0 s') (.inl (some (vR r))) s') pc L st s
noncomputable def f_X9_more_49 (κ : gK) (F : Nat) (k10 : Option Nat → Int32 → Int32 → Option Nat → Int32 → gS → Option ((Option Nat) × gS)) (l0 : Option Nat) (l1 : Int32) (l2 : Int32) (l3 : Option Nat) (l4 : Int32) (t0 : Option Nat) (t1 : Int32) (t2 : Int32) (s : gS) : Option ((Option Nat) × gS) :=
  gB1 (gsI κ s t0 t1 t2) fun s1 =>
  k10 l0 l1 l2 l3 (l4 + (1 : Int32)) s1
set_option maxHeartbeats 4000000 in
theorem w_X9_more_49 {E : gE} {F z0 n0 : Nat} {r : (Option Nat)} {s' : gS} {k10 : Option Nat → Int32 → Int32 → Option Nat → Int32 → gS → Option ((Option Nat) × gS)} (hk10 : ∀ (l0 : Option Nat) (l1 : Int32) (l2 : Int32) (l3 : Option Nat) (l4 : Int32) (s : gS), k10 l0 l1 l2 l3 l4 s = some (r, s') → W_X9_more E z0 n0 r s' 10 [(0, vR l0), (1, vI l1), (2, vI l2), (3, vR l3), (4, vI l4)] [] s) : ∀ (l0 : Option Nat) (l1 : Int32) (l2 : Int32) (l3 : Option Nat) (l4 : Int32) (t0 : Option Nat) (t1 : Int32) (t2 : Int32) (s : gS), f_X9_more_49 (gk E) F k10 l0 l1 l2 l3 l4 t0 t1 t2 s = some (r, s') → W_X9_more E z0 n0 r s' 49 [(0, vR l0), (1, vI l1), (2, vI l2), (3, vR l3), (4, vI l4)] [vI t2, vI t1, vR t0] s := by
  intro l0 l1 l2 l3 l4 t0 t1 t2 s hB
  unfold f_X9_more_49 at hB
  obtain ⟨s1, hs1, hB⟩ := gB1_some hB
  refine gw_iastore hs1 dX9_more_49 ?_
  refine gw_iinc (w := (1 : Int32)) (L' := [(4, vI (l4 + (1 : Int32))), (0, vR l0), (1, vI l1), (2, vI l2), (3, vR l3)]) 4 rfl (by decide) (Nat.le_of_ble_eq_true rfl) rfl dX9_more_50 ?_
  refine gw_goto (tgt := 10) dX9_more_53 (by decide) ?_
  exact gw_sub [1, 2, 3, 4, 0] rfl (hk10 _ _ _ _ _ _ hB)
noncomputable def f_X9_more_10b (κ : gK) (F : Nat) (k10 : Option Nat → Int32 → Int32 → Option Nat → Int32 → gS → Option ((Option Nat) × gS)) (l0 : Option Nat) (l1 : Int32) (l2 : Int32) (l3 : Option Nat) (l4 : Int32) (s : gS) : Option ((Option Nat) × gS) :=
  gB1 (gal s l3) fun v1 =>
  if v1 ≤ l4 then
    some (l3, s)
  else
    if l1 ≤ l4 then
      if l4 = l1 then
        f_X9_more_49 κ F k10 l0 l1 l2 l3 l4 l3 l4 l2 s
      else
        gB1 (gaI s l0 0 (l4 - (1 : Int32))) fun v2 =>
        f_X9_more_49 κ F k10 l0 l1 l2 l3 l4 l3 l4 v2 s
    else
      gB1 (gaI s l0 0 l4) fun v3 =>
      f_X9_more_49 κ F k10 l0 l1 l2 l3 l4 l3 l4 v3 s
noncomputable def f_X9_more_10 (κ : gK) (F : Nat)  : Nat → Option Nat → Int32 → Int32 → Option Nat → Int32 → gS → Option ((Option Nat) × gS)
  | 0 => fun _ _ _ _ _ _ => none
  | n + 1 => f_X9_more_10b κ F  (f_X9_more_10 κ F  n)
set_option maxHeartbeats 4000000 in
theorem w_X9_more_10b {E : gE} {F z0 n0 : Nat} {r : (Option Nat)} {s' : gS} {k10 : Option Nat → Int32 → Int32 → Option Nat → Int32 → gS → Option ((Option Nat) × gS)} (hk10 : ∀ (l0 : Option Nat) (l1 : Int32) (l2 : Int32) (l3 : Option Nat) (l4 : Int32) (s : gS), k10 l0 l1 l2 l3 l4 s = some (r, s') → W_X9_more E z0 n0 r s' 10 [(0, vR l0), (1, vI l1), (2, vI l2), (3, vR l3), (4, vI l4)] [] s) : ∀ (l0 : Option Nat) (l1 : Int32) (l2 : Int32) (l3 : Option Nat) (l4 : Int32)  (s : gS), f_X9_more_10b (gk E) F k10 l0 l1 l2 l3 l4 s = some (r, s') → W_X9_more E z0 n0 r s' 10 [(0, vR l0), (1, vI l1), (2, vI l2), (3, vR l3), (4, vI l4)] [] s := by
  intro l0 l1 l2 l3 l4 s hB
  unfold f_X9_more_10b at hB
  refine gw_iload 4 rfl dX9_more_10 ?_
  refine gw_aload_n 3 rfl dX9_more_12 ?_
  obtain ⟨v1, hv1, hB⟩ := gB1_some hB
  refine gw_alen hv1 dX9_more_13 ?_
  refine gw_icmp_ge (tgt := 56) dX9_more_14 (by decide) (fun hcnd => ?_) (fun hcnd => ?_)
  · rw [if_pos hcnd] at hB
    refine gw_aload_n 3 rfl dX9_more_56 ?_
    obtain ⟨rfl, rfl⟩ := Prod.mk.inj (Option.some.inj hB)
    exact gw_aret rfl (Or.inr ⟨_, rfl⟩) rfl rfl dX9_more_57
  · rw [if_neg hcnd] at hB
    refine gw_aload_n 3 rfl dX9_more_17 ?_
    refine gw_iload 4 rfl dX9_more_18 ?_
    refine gw_iload 4 rfl dX9_more_20 ?_
    refine gw_iload_n 1 rfl dX9_more_22 ?_
    refine gw_icmp_ge (tgt := 33) dX9_more_23 (by decide) (fun hcnd => ?_) (fun hcnd => ?_)
    · rw [if_pos hcnd] at hB
      refine gw_iload 4 rfl dX9_more_33 ?_
      refine gw_iload_n 1 rfl dX9_more_35 ?_
      refine gw_icmp_ne (tgt := 43) dX9_more_36 (by decide) (fun hcnd => ?_) (fun hcnd => ?_)
      · rw [if_neg hcnd] at hB
        refine gw_aload_n 0 rfl dX9_more_43 ?_
        refine gw_iload 4 rfl dX9_more_44 ?_
        refine gw_iconst (v := (1 : Int32)) (by decide) dX9_more_46 ?_
        refine gw_isub dX9_more_47 ?_
        obtain ⟨v2, hv2, hB⟩ := gB1_some hB
        refine gw_iaload hv2 dX9_more_48 ?_
        exact gw_sub [0, 1, 2, 3, 4] rfl (w_X9_more_49 hk10 _ _ _ _ _ _ _ _ _ hB)
      · rw [if_pos hcnd] at hB
        refine gw_iload_n 2 rfl dX9_more_39 ?_
        refine gw_goto (tgt := 49) dX9_more_40 (by decide) ?_
        exact gw_sub [0, 1, 2, 3, 4] rfl (w_X9_more_49 hk10 _ _ _ _ _ _ _ _ _ hB)
    · rw [if_neg hcnd] at hB
      refine gw_aload_n 0 rfl dX9_more_26 ?_
      refine gw_iload 4 rfl dX9_more_27 ?_
      obtain ⟨v3, hv3, hB⟩ := gB1_some hB
      refine gw_iaload hv3 dX9_more_29 ?_
      refine gw_goto (tgt := 49) dX9_more_30 (by decide) ?_
      exact gw_sub [0, 1, 2, 3, 4] rfl (w_X9_more_49 hk10 _ _ _ _ _ _ _ _ _ hB)
theorem w_X9_more_10 {E : gE} {F z0 n0 : Nat} {r : (Option Nat)} {s' : gS}   : ∀ (n : Nat) (l0 : Option Nat) (l1 : Int32) (l2 : Int32) (l3 : Option Nat) (l4 : Int32)  (s : gS), f_X9_more_10 (gk E) F  n l0 l1 l2 l3 l4 s = some (r, s') → W_X9_more E z0 n0 r s' 10 [(0, vR l0), (1, vI l1), (2, vI l2), (3, vR l3), (4, vI l4)] [] s := by
  intro n
  induction n with
  | zero => intro l0 l1 l2 l3 l4 s hB; cases hB
  | succ n ih => intro l0 l1 l2 l3 l4 s hB; exact w_X9_more_10b ih l0 l1 l2 l3 l4 s hB
noncomputable def f_X9_more_0 (κ : gK) (F : Nat)  (l0 : Option Nat) (l1 : Int32) (l2 : Int32) (s : gS) : Option ((Option Nat) × gS) :=
  gB1 (gal s l0) fun v1 =>
  gB2 (gna s 0 (v1 + (1 : Int32))) fun v2 s3 =>
  f_X9_more_10 κ F  F l0 l1 l2 v2 (0 : Int32) s3
set_option maxHeartbeats 4000000 in
theorem w_X9_more_0 {E : gE} {F z0 n0 : Nat} {r : (Option Nat)} {s' : gS}   : ∀ (l0 : Option Nat) (l1 : Int32) (l2 : Int32)  (s : gS), f_X9_more_0 (gk E) F  l0 l1 l2 s = some (r, s') → W_X9_more E z0 n0 r s' 0 [(0, vR l0), (1, vI l1), (2, vI l2)] [] s := by
  intro l0 l1 l2 s hB
  unfold f_X9_more_0 at hB
  refine gw_aload_n 0 rfl dX9_more_0 ?_
  obtain ⟨v1, hv1, hB⟩ := gB1_some hB
  refine gw_alen hv1 dX9_more_1 ?_
  refine gw_iconst (v := (1 : Int32)) (by decide) dX9_more_2 ?_
  refine gw_iadd dX9_more_3 ?_
  obtain ⟨v2, s3, hv2, hB⟩ := gB2_some hB
  refine gw_newarr (atype := .int) (t := 0) rfl rfl rfl (by decide) rfl q211 hv2 dX9_more_4 ?_
  refine gw_astore_n (L' := [(3, vR v2), (0, vR l0), (1, vI l1), (2, vI l2)]) (Nat.le_of_ble_eq_true rfl) rfl dX9_more_6 ?_
  refine gw_iconst (v := (0 : Int32)) (by decide) dX9_more_7 ?_
  refine gw_istore (L' := [(4, vI (0 : Int32)), (3, vR v2), (0, vR l0), (1, vI l1), (2, vI l2)]) (Nat.le_of_ble_eq_true rfl) rfl dX9_more_8 ?_
  exact gw_sub [2, 3, 4, 1, 0] rfl (w_X9_more_10  F _ _ _ _ _ _ hB)
noncomputable def f_X9_more (κ : gK) (F : Nat) (a1 : Option Nat) (a2 : Int32) (a3 : Int32) (s : gS) : Option ((Option Nat) × gS) := f_X9_more_0 κ F a1 a2 a3 s
theorem m_X9_more {E : gE} {F : Nat} (a1 : Option Nat) (a2 : Int32) (a3 : Int32) (s : gS) (r : (Option Nat)) (s' : gS) (h : f_X9_more (gk E) F a1 a2 a3 s = some (r, s')) : gCT E 1 yX9_more (ws_ yX9_more cX9_more 5 (some (FieldType.array FieldType.int))) [vR a1, vI a2, vI a3] s (.inl (some (vR r))) s' := by
  refine gCT_of2 (fun h => absurd h (by decide)) (plainFor_of_name (by decide)) (Nat.le_of_ble_eq_true rfl) ?_
  exact gw_sub [0, 1, 2] rfl (w_X9_more_0 _ _ _ _ h)
def dkwX5_with_0 : List UInt8 := [187, 0, 8, 89, 42, 180, 0, 7, 27, 28, 184, 0, 13, 183, 0, 19, 176]
abbrev dktX5_with_0 : List UInt8 := dkwX5_with_0 ++ []
theorem dksX5_with_0 : cX5_with.data.toList.drop 0 = dktX5_with_0 := by decide +kernel
theorem dX5_with_0 : decode cX5_with 0 = .ok (.new 8, 3) := dk_187 0 8 (dk_at dksX5_with_0 0 rfl rfl)
theorem dX5_with_3 : decode cX5_with 3 = .ok (.dup, 1) := dk_89 (dk_at dksX5_with_0 3 rfl rfl)
theorem dX5_with_4 : decode cX5_with 4 = .ok (.aload_n 0, 1) := dk_42 (dk_at dksX5_with_0 4 rfl rfl)
theorem dX5_with_5 : decode cX5_with 5 = .ok (.getfield 7, 3) := dk_180 0 7 (dk_at dksX5_with_0 5 rfl rfl)
theorem dX5_with_8 : decode cX5_with 8 = .ok (.iload_n 1, 1) := dk_27 (dk_at dksX5_with_0 8 rfl rfl)
theorem dX5_with_9 : decode cX5_with 9 = .ok (.iload_n 2, 1) := dk_28 (dk_at dksX5_with_0 9 rfl rfl)
theorem dX5_with_10 : decode cX5_with 10 = .ok (.invokestatic 13, 3) := dk_184 0 13 (dk_at dksX5_with_0 10 rfl rfl)
theorem dX5_with_13 : decode cX5_with 13 = .ok (.invokespecial 19, 3) := dk_183 0 19 (dk_at dksX5_with_0 13 rfl rfl)
theorem dX5_with_16 : decode cX5_with 16 = .ok (.areturn, 1) := dk_176 (dk_at dksX5_with_0 16 rfl rfl)
/-! PageGarden$Directory.with(II)LPageGarden$Directory; -/
abbrev M_X5_with (z0 n0 : Nat) (s' : gS) : gM := (RX5, cX5_with, 3, (some (FieldType.object "PageGarden$Directory")), "with", [], 2, z0, n0, s'.2.1, s'.2.2)
abbrev W_X5_with (E : gE) (z0 n0 : Nat) (r : (Option Nat)) (s' : gS) (pc : Nat) (L : List (Nat × gV)) (st : List gV) (s : gS) : Prop := gW E (M_X5_with z0 n0 s') (gQm E (M_X5_with z0 n0 s') (.inl (some (vR r))) s') pc L st s
noncomputable def f_X5_with_0 (κ : gK) (F : Nat)  (l0 : Option Nat) (l1 : Int32) (l2 : Int32) (s : gS) : Option ((Option Nat) × gS) :=
  gB2 (gnw s 3 g0_X5 1) fun v1 s2 =>
  gB1 (gfR s2 l0 3 0) fun v3 =>
  gB2 (f_X9_more κ F v3 l1 l2 s2) fun v5 s4 =>
  gB1 (gsm v1) fun _ =>
  gB2 (f_X5_init κ F v1 v5 s4) fun v7 s6 =>
  some (v1, s6)
set_option maxHeartbeats 4000000 in
theorem w_X5_with_0 {E : gE} {F z0 n0 : Nat} {r : (Option Nat)} {s' : gS}   : ∀ (l0 : Option Nat) (l1 : Int32) (l2 : Int32)  (s : gS), f_X5_with_0 (gk E) F  l0 l1 l2 s = some (r, s') → W_X5_with E z0 n0 r s' 0 [(0, vR l0), (1, vI l1), (2, vI l2)] [] s := by
  intro l0 l1 l2 s hB
  unfold f_X5_with_0 at hB
  obtain ⟨v1, s2, hv1, hB⟩ := gB2_some hB
  refine gw_new (C := RX5) (T := TX5) (N := 1) tyX5 tyX5_ok gcl3 in_X5 q2183 q315 q117 g0_X5_ok hv1 dX5_with_0 ?_
  refine gw_dup rfl dX5_with_3 ?_
  refine gw_aload_n 0 rfl dX5_with_4 ?_
  obtain ⟨v3, hv3, hB⟩ := gB1_some hB
  refine gw_getf (C := RX5) (T := TX5) (N := 1) (k := 0) gcl3 (by decide) in_X5 q320 (gfR_spec hv3) dX5_with_5 ?_
  refine gw_iload_n 1 rfl dX5_with_8 ?_
  refine gw_iload_n 2 rfl dX5_with_9 ?_
  obtain ⟨v5, s4, hv5, hB⟩ := gB2_some hB
  refine gw_callSN (y := yX9_more) (lw_meth q2186) q160 q2184 q2185 hdS_X9_more (As := [vR v3, vI l1, vI l2]) (rest := [vR v1, vR v1]) (m_X9_more _ _ _ _ _ _ hv5) (Nat.le_of_ble_eq_true rfl) (Nat.le_of_ble_eq_true rfl) rfl (Nat.le_of_ble_eq_true rfl) dX5_with_10 (gCont_i ?_)
  obtain ⟨u0, hu8, hB⟩ := gB1_some hB
  obtain ⟨v7, s6, hv7, hB⟩ := gB2_some hB
  refine gw_callI (y := yX5_init) (lw_meth q318) q117 q2187 q317 rfl hdS_X5_init (gsm_spec hu8) (As := [vR v5]) (rest := [vR v1]) (m_X5_init _ _ _ _ _ hv7) (Nat.le_of_ble_eq_true rfl) (Nat.le_of_ble_eq_true rfl) rfl (Nat.le_of_ble_eq_true rfl) dX5_with_13 (gCont_v ?_)
  obtain ⟨rfl, rfl⟩ := Prod.mk.inj (Option.some.inj hB)
  exact gw_aret rfl (Or.inl ⟨_, rfl⟩) rfl rfl dX5_with_16
noncomputable def f_X5_with (κ : gK) (F : Nat) (a0 : Option Nat) (a1 : Int32) (a2 : Int32) (s : gS) : Option ((Option Nat) × gS) := f_X5_with_0 κ F a0 a1 a2 s
theorem m_X5_with {E : gE} {F : Nat} (a0 : Option Nat) (a1 : Int32) (a2 : Int32) (s : gS) (r : (Option Nat)) (s' : gS) (h : f_X5_with (gk E) F a0 a1 a2 s = some (r, s')) : gCT E 2 yX5_with (ws_ yX5_with cX5_with 3 (some (FieldType.object "PageGarden$Directory"))) [vR a0, vI a1, vI a2] s (.inl (some (vR r))) s' := by
  refine gCT_of2 (fun h => absurd h (by decide)) (plainFor_of_name (by decide)) (Nat.le_of_ble_eq_true rfl) ?_
  exact gw_sub [0, 1, 2] rfl (w_X5_with_0 _ _ _ _ h)
def dkwX5_without_2 : List UInt8 := [44, 183, 0, 19, 176]
abbrev dktX5_without_2 : List UInt8 := dkwX5_without_2 ++ []
def dkwX5_without_1 : List UInt8 := [29, 27, 162, 0, 7, 29, 167, 0, 6, 29, 4, 96, 46, 79, 132, 3, 1, 167, 255, 227, 187, 0, 8, 89]
abbrev dktX5_without_1 : List UInt8 := dkwX5_without_1 ++ dktX5_without_2
def dkwX5_without_0 : List UInt8 := [42, 180, 0, 7, 190, 4, 100, 188, 10, 77, 3, 62, 29, 44, 190, 162, 0, 29, 44, 29, 42, 180, 0, 7]
abbrev dktX5_without_0 : List UInt8 := dkwX5_without_0 ++ dktX5_without_1
theorem dksX5_without_0 : cX5_without.data.toList.drop 0 = dktX5_without_0 := by decide +kernel
theorem dksX5_without_1 : cX5_without.data.toList.drop 24 = dktX5_without_1 := dk_seg dksX5_without_0 24 rfl rfl
theorem dksX5_without_2 : cX5_without.data.toList.drop 48 = dktX5_without_2 := dk_seg dksX5_without_1 24 rfl rfl
theorem dX5_without_0 : decode cX5_without 0 = .ok (.aload_n 0, 1) := dk_42 (dk_at dksX5_without_0 0 rfl rfl)
theorem dX5_without_1 : decode cX5_without 1 = .ok (.getfield 7, 3) := dk_180 0 7 (dk_at dksX5_without_0 1 rfl rfl)
theorem dX5_without_4 : decode cX5_without 4 = .ok (.arraylength, 1) := dk_190 (dk_at dksX5_without_0 4 rfl rfl)
theorem dX5_without_5 : decode cX5_without 5 = .ok (.iconst 1, 1) := dk_4 (dk_at dksX5_without_0 5 rfl rfl)
theorem dX5_without_6 : decode cX5_without 6 = .ok (.isub, 1) := dk_100 (dk_at dksX5_without_0 6 rfl rfl)
theorem dX5_without_7 : decode cX5_without 7 = .ok (.newarray .int, 2) := dk_188_10 (dk_at dksX5_without_0 7 rfl rfl)
theorem dX5_without_9 : decode cX5_without 9 = .ok (.astore_n 2, 1) := dk_77 (dk_at dksX5_without_0 9 rfl rfl)
theorem dX5_without_10 : decode cX5_without 10 = .ok (.iconst 0, 1) := dk_3 (dk_at dksX5_without_0 10 rfl rfl)
theorem dX5_without_11 : decode cX5_without 11 = .ok (.istore_n 3, 1) := dk_62 (dk_at dksX5_without_0 11 rfl rfl)
theorem dX5_without_12 : decode cX5_without 12 = .ok (.iload_n 3, 1) := dk_29 (dk_at dksX5_without_0 12 rfl rfl)
theorem dX5_without_13 : decode cX5_without 13 = .ok (.aload_n 2, 1) := dk_44 (dk_at dksX5_without_0 13 rfl rfl)
theorem dX5_without_14 : decode cX5_without 14 = .ok (.arraylength, 1) := dk_190 (dk_at dksX5_without_0 14 rfl rfl)
theorem dX5_without_15 : decode cX5_without 15 = .ok (.if_icmp .ge 29, 3) := dk_162 0 29 (dk_at dksX5_without_0 15 rfl rfl)
theorem dX5_without_18 : decode cX5_without 18 = .ok (.aload_n 2, 1) := dk_44 (dk_at dksX5_without_0 18 rfl rfl)
theorem dX5_without_19 : decode cX5_without 19 = .ok (.iload_n 3, 1) := dk_29 (dk_at dksX5_without_0 19 rfl rfl)
theorem dX5_without_20 : decode cX5_without 20 = .ok (.aload_n 0, 1) := dk_42 (dk_at dksX5_without_0 20 rfl rfl)
theorem dX5_without_21 : decode cX5_without 21 = .ok (.getfield 7, 3) := dk_180 0 7 (dk_at dksX5_without_0 21 rfl rfl)
theorem dX5_without_24 : decode cX5_without 24 = .ok (.iload_n 3, 1) := dk_29 (dk_at dksX5_without_1 0 rfl rfl)
theorem dX5_without_25 : decode cX5_without 25 = .ok (.iload_n 1, 1) := dk_27 (dk_at dksX5_without_1 1 rfl rfl)
theorem dX5_without_26 : decode cX5_without 26 = .ok (.if_icmp .ge 7, 3) := dk_162 0 7 (dk_at dksX5_without_1 2 rfl rfl)
theorem dX5_without_29 : decode cX5_without 29 = .ok (.iload_n 3, 1) := dk_29 (dk_at dksX5_without_1 5 rfl rfl)
theorem dX5_without_30 : decode cX5_without 30 = .ok (.goto 6, 3) := dk_167 0 6 (dk_at dksX5_without_1 6 rfl rfl)
theorem dX5_without_33 : decode cX5_without 33 = .ok (.iload_n 3, 1) := dk_29 (dk_at dksX5_without_1 9 rfl rfl)
theorem dX5_without_34 : decode cX5_without 34 = .ok (.iconst 1, 1) := dk_4 (dk_at dksX5_without_1 10 rfl rfl)
theorem dX5_without_35 : decode cX5_without 35 = .ok (.iadd, 1) := dk_96 (dk_at dksX5_without_1 11 rfl rfl)
theorem dX5_without_36 : decode cX5_without 36 = .ok (.iaload, 1) := dk_46 (dk_at dksX5_without_1 12 rfl rfl)
theorem dX5_without_37 : decode cX5_without 37 = .ok (.iastore, 1) := dk_79 (dk_at dksX5_without_1 13 rfl rfl)
theorem dX5_without_38 : decode cX5_without 38 = .ok (.iinc 3 1, 3) := dk_132 3 1 (dk_at dksX5_without_1 14 rfl rfl)
theorem dX5_without_41 : decode cX5_without 41 = .ok (.goto (-29), 3) := dk_167 255 227 (dk_at dksX5_without_1 17 rfl rfl)
theorem dX5_without_44 : decode cX5_without 44 = .ok (.new 8, 3) := dk_187 0 8 (dk_at dksX5_without_1 20 rfl rfl)
theorem dX5_without_47 : decode cX5_without 47 = .ok (.dup, 1) := dk_89 (dk_at dksX5_without_1 23 rfl rfl)
theorem dX5_without_48 : decode cX5_without 48 = .ok (.aload_n 2, 1) := dk_44 (dk_at dksX5_without_2 0 rfl rfl)
theorem dX5_without_49 : decode cX5_without 49 = .ok (.invokespecial 19, 3) := dk_183 0 19 (dk_at dksX5_without_2 1 rfl rfl)
theorem dX5_without_52 : decode cX5_without 52 = .ok (.areturn, 1) := dk_176 (dk_at dksX5_without_2 4 rfl rfl)
/-! PageGarden$Directory.without(I)LPageGarden$Directory; -/
abbrev M_X5_without (z0 n0 : Nat) (s' : gS) : gM := (RX5, cX5_without, 4, (some (FieldType.object "PageGarden$Directory")), "without", [], 2, z0, n0, s'.2.1, s'.2.2)
abbrev W_X5_without (E : gE) (z0 n0 : Nat) (r : (Option Nat)) (s' : gS) (pc : Nat) (L : List (Nat × gV)) (st : List gV) (s : gS) : Prop := gW E (M_X5_without z0 n0 s') (gQm E (M_X5_without z0 n0 s') (.inl (some (vR r))) s') pc L st s
noncomputable def f_X5_without_36 (κ : gK) (F : Nat) (k12 : Option Nat → Int32 → Option Nat → Int32 → gS → Option ((Option Nat) × gS)) (l0 : Option Nat) (l1 : Int32) (l2 : Option Nat) (l3 : Int32) (t0 : Option Nat) (t1 : Int32) (t2 : Option Nat) (t3 : Int32) (s : gS) : Option ((Option Nat) × gS) :=
  gB1 (gaI s t2 0 t3) fun v1 =>
  gB1 (gsI κ s t0 t1 v1) fun s2 =>
  k12 l0 l1 l2 (l3 + (1 : Int32)) s2
set_option maxHeartbeats 4000000 in
theorem w_X5_without_36 {E : gE} {F z0 n0 : Nat} {r : (Option Nat)} {s' : gS} {k12 : Option Nat → Int32 → Option Nat → Int32 → gS → Option ((Option Nat) × gS)} (hk12 : ∀ (l0 : Option Nat) (l1 : Int32) (l2 : Option Nat) (l3 : Int32) (s : gS), k12 l0 l1 l2 l3 s = some (r, s') → W_X5_without E z0 n0 r s' 12 [(0, vR l0), (1, vI l1), (2, vR l2), (3, vI l3)] [] s) : ∀ (l0 : Option Nat) (l1 : Int32) (l2 : Option Nat) (l3 : Int32) (t0 : Option Nat) (t1 : Int32) (t2 : Option Nat) (t3 : Int32) (s : gS), f_X5_without_36 (gk E) F k12 l0 l1 l2 l3 t0 t1 t2 t3 s = some (r, s') → W_X5_without E z0 n0 r s' 36 [(0, vR l0), (1, vI l1), (2, vR l2), (3, vI l3)] [vI t3, vR t2, vI t1, vR t0] s := by
  intro l0 l1 l2 l3 t0 t1 t2 t3 s hB
  unfold f_X5_without_36 at hB
  obtain ⟨v1, hv1, hB⟩ := gB1_some hB
  refine gw_iaload hv1 dX5_without_36 ?_
  obtain ⟨s2, hs2, hB⟩ := gB1_some hB
  refine gw_iastore hs2 dX5_without_37 ?_
  refine gw_iinc (w := (1 : Int32)) (L' := [(3, vI (l3 + (1 : Int32))), (0, vR l0), (1, vI l1), (2, vR l2)]) 3 rfl (by decide) (Nat.le_of_ble_eq_true rfl) rfl dX5_without_38 ?_
  refine gw_goto (tgt := 12) dX5_without_41 (by decide) ?_
  exact gw_sub [1, 2, 3, 0] rfl (hk12 _ _ _ _ _ hB)
noncomputable def f_X5_without_12b (κ : gK) (F : Nat) (k12 : Option Nat → Int32 → Option Nat → Int32 → gS → Option ((Option Nat) × gS)) (l0 : Option Nat) (l1 : Int32) (l2 : Option Nat) (l3 : Int32) (s : gS) : Option ((Option Nat) × gS) :=
  gB1 (gal s l2) fun v1 =>
  if v1 ≤ l3 then
    gB2 (gnw s 3 g0_X5 1) fun v2 s3 =>
    gB1 (gsm v2) fun _ =>
    gB2 (f_X5_init κ F v2 l2 s3) fun v5 s4 =>
    some (v2, s4)
  else
    gB1 (gfR s l0 3 0) fun v7 =>
    if l1 ≤ l3 then
      f_X5_without_36 κ F k12 l0 l1 l2 l3 l2 l3 v7 (l3 + (1 : Int32)) s
    else
      f_X5_without_36 κ F k12 l0 l1 l2 l3 l2 l3 v7 l3 s
noncomputable def f_X5_without_12 (κ : gK) (F : Nat)  : Nat → Option Nat → Int32 → Option Nat → Int32 → gS → Option ((Option Nat) × gS)
  | 0 => fun _ _ _ _ _ => none
  | n + 1 => f_X5_without_12b κ F  (f_X5_without_12 κ F  n)
set_option maxHeartbeats 4000000 in
theorem w_X5_without_12b {E : gE} {F z0 n0 : Nat} {r : (Option Nat)} {s' : gS} {k12 : Option Nat → Int32 → Option Nat → Int32 → gS → Option ((Option Nat) × gS)} (hk12 : ∀ (l0 : Option Nat) (l1 : Int32) (l2 : Option Nat) (l3 : Int32) (s : gS), k12 l0 l1 l2 l3 s = some (r, s') → W_X5_without E z0 n0 r s' 12 [(0, vR l0), (1, vI l1), (2, vR l2), (3, vI l3)] [] s) : ∀ (l0 : Option Nat) (l1 : Int32) (l2 : Option Nat) (l3 : Int32)  (s : gS), f_X5_without_12b (gk E) F k12 l0 l1 l2 l3 s = some (r, s') → W_X5_without E z0 n0 r s' 12 [(0, vR l0), (1, vI l1), (2, vR l2), (3, vI l3)] [] s := by
  intro l0 l1 l2 l3 s hB
  unfold f_X5_without_12b at hB
  refine gw_iload_n 3 rfl dX5_without_12 ?_
  refine gw_aload_n 2 rfl dX5_without_13 ?_
  obtain ⟨v1, hv1, hB⟩ := gB1_some hB
  refine gw_alen hv1 dX5_without_14 ?_
  refine gw_icmp_ge (tgt := 44) dX5_without_15 (by decide) (fun hcnd => ?_) (fun hcnd => ?_)
  · rw [if_pos hcnd] at hB
    obtain ⟨v2, s3, hv2, hB⟩ := gB2_some hB
    refine gw_new (C := RX5) (T := TX5) (N := 1) tyX5 tyX5_ok gcl3 in_X5 q2183 q315 q117 g0_X5_ok hv2 dX5_without_44 ?_
    refine gw_dup rfl dX5_without_47 ?_
    refine gw_aload_n 2 rfl dX5_without_48 ?_
    obtain ⟨u0, hu6, hB⟩ := gB1_some hB
    obtain ⟨v5, s4, hv5, hB⟩ := gB2_some hB
    refine gw_callI (y := yX5_init) (lw_meth q318) q117 q2187 q317 rfl hdS_X5_init (gsm_spec hu6) (As := [vR l2]) (rest := [vR v2]) (m_X5_init _ _ _ _ _ hv5) (Nat.le_of_ble_eq_true rfl) (Nat.le_of_ble_eq_true rfl) rfl (Nat.le_of_ble_eq_true rfl) dX5_without_49 (gCont_v ?_)
    obtain ⟨rfl, rfl⟩ := Prod.mk.inj (Option.some.inj hB)
    exact gw_aret rfl (Or.inl ⟨_, rfl⟩) rfl rfl dX5_without_52
  · rw [if_neg hcnd] at hB
    refine gw_aload_n 2 rfl dX5_without_18 ?_
    refine gw_iload_n 3 rfl dX5_without_19 ?_
    refine gw_aload_n 0 rfl dX5_without_20 ?_
    obtain ⟨v7, hv7, hB⟩ := gB1_some hB
    refine gw_getf (C := RX5) (T := TX5) (N := 1) (k := 0) gcl3 (by decide) in_X5 q320 (gfR_spec hv7) dX5_without_21 ?_
    refine gw_iload_n 3 rfl dX5_without_24 ?_
    refine gw_iload_n 1 rfl dX5_without_25 ?_
    refine gw_icmp_ge (tgt := 33) dX5_without_26 (by decide) (fun hcnd => ?_) (fun hcnd => ?_)
    · rw [if_pos hcnd] at hB
      refine gw_iload_n 3 rfl dX5_without_33 ?_
      refine gw_iconst (v := (1 : Int32)) (by decide) dX5_without_34 ?_
      refine gw_iadd dX5_without_35 ?_
      exact gw_sub [0, 1, 2, 3] rfl (w_X5_without_36 hk12 _ _ _ _ _ _ _ _ _ hB)
    · rw [if_neg hcnd] at hB
      refine gw_iload_n 3 rfl dX5_without_29 ?_
      refine gw_goto (tgt := 36) dX5_without_30 (by decide) ?_
      exact gw_sub [0, 1, 2, 3] rfl (w_X5_without_36 hk12 _ _ _ _ _ _ _ _ _ hB)
theorem w_X5_without_12 {E : gE} {F z0 n0 : Nat} {r : (Option Nat)} {s' : gS}   : ∀ (n : Nat) (l0 : Option Nat) (l1 : Int32) (l2 : Option Nat) (l3 : Int32)  (s : gS), f_X5_without_12 (gk E) F  n l0 l1 l2 l3 s = some (r, s') → W_X5_without E z0 n0 r s' 12 [(0, vR l0), (1, vI l1), (2, vR l2), (3, vI l3)] [] s := by
  intro n
  induction n with
  | zero => intro l0 l1 l2 l3 s hB; cases hB
  | succ n ih => intro l0 l1 l2 l3 s hB; exact w_X5_without_12b ih l0 l1 l2 l3 s hB
noncomputable def f_X5_without_0 (κ : gK) (F : Nat)  (l0 : Option Nat) (l1 : Int32) (s : gS) : Option ((Option Nat) × gS) :=
  gB1 (gfR s l0 3 0) fun v1 =>
  gB1 (gal s v1) fun v2 =>
  gB2 (gna s 0 (v2 - (1 : Int32))) fun v3 s4 =>
  f_X5_without_12 κ F  F l0 l1 v3 (0 : Int32) s4
set_option maxHeartbeats 4000000 in
theorem w_X5_without_0 {E : gE} {F z0 n0 : Nat} {r : (Option Nat)} {s' : gS}   : ∀ (l0 : Option Nat) (l1 : Int32)  (s : gS), f_X5_without_0 (gk E) F  l0 l1 s = some (r, s') → W_X5_without E z0 n0 r s' 0 [(0, vR l0), (1, vI l1)] [] s := by
  intro l0 l1 s hB
  unfold f_X5_without_0 at hB
  refine gw_aload_n 0 rfl dX5_without_0 ?_
  obtain ⟨v1, hv1, hB⟩ := gB1_some hB
  refine gw_getf (C := RX5) (T := TX5) (N := 1) (k := 0) gcl3 (by decide) in_X5 q320 (gfR_spec hv1) dX5_without_1 ?_
  obtain ⟨v2, hv2, hB⟩ := gB1_some hB
  refine gw_alen hv2 dX5_without_4 ?_
  refine gw_iconst (v := (1 : Int32)) (by decide) dX5_without_5 ?_
  refine gw_isub dX5_without_6 ?_
  obtain ⟨v3, s4, hv3, hB⟩ := gB2_some hB
  refine gw_newarr (atype := .int) (t := 0) rfl rfl rfl (by decide) rfl q211 hv3 dX5_without_7 ?_
  refine gw_astore_n (L' := [(2, vR v3), (0, vR l0), (1, vI l1)]) (Nat.le_of_ble_eq_true rfl) rfl dX5_without_9 ?_
  refine gw_iconst (v := (0 : Int32)) (by decide) dX5_without_10 ?_
  refine gw_istore_n (L' := [(3, vI (0 : Int32)), (2, vR v3), (0, vR l0), (1, vI l1)]) (Nat.le_of_ble_eq_true rfl) rfl dX5_without_11 ?_
  exact gw_sub [2, 3, 1, 0] rfl (w_X5_without_12  F _ _ _ _ _ hB)
noncomputable def f_X5_without (κ : gK) (F : Nat) (a0 : Option Nat) (a1 : Int32) (s : gS) : Option ((Option Nat) × gS) := f_X5_without_0 κ F a0 a1 s
theorem m_X5_without {E : gE} {F : Nat} (a0 : Option Nat) (a1 : Int32) (s : gS) (r : (Option Nat)) (s' : gS) (h : f_X5_without (gk E) F a0 a1 s = some (r, s')) : gCT E 2 yX5_without (ws_ yX5_without cX5_without 4 (some (FieldType.object "PageGarden$Directory"))) [vR a0, vI a1] s (.inl (some (vR r))) s' := by
  refine gCT_of2 (fun h => absurd h (by decide)) (plainFor_of_name (by decide)) (Nat.le_of_ble_eq_true rfl) ?_
  exact gw_sub [0, 1] rfl (w_X5_without_0 _ _ _ h)
theorem dJ23_init_0 : decode cJ23_init 0 = .ok (.aload_n 0, 1) := by decide +kernel
theorem dJ23_init_1 : decode cJ23_init 1 = .ok (.invokespecial 1, 3) := by decide +kernel
theorem dJ23_init_4 : decode cJ23_init 4 = .ok (.return_, 1) := by decide +kernel
/-! java/util/AbstractCollection.<init>()V -/
abbrev M_J23_init (z0 n0 : Nat) (s' : gS) : gM := (RJ23, cJ23_init, 1, none, "<init>", [], 1, z0, n0, s'.2.1, s'.2.2)
abbrev W_J23_init (E : gE) (z0 n0 : Nat) (r : Unit) (s' : gS) (pc : Nat) (L : List (Nat × gV)) (st : List gV) (s : gS) : Prop := gW E (M_J23_init z0 n0 s') (gQm E (M_J23_init z0 n0 s') (.inl none) s') pc L st s
noncomputable def f_J23_init_0 (κ : gK) (F : Nat)  (l0 : Option Nat) (s : gS) : Option (Unit × gS) :=
  gB1 (gsm l0) fun _ =>
  some ((), s)
set_option maxHeartbeats 4000000 in
theorem w_J23_init_0 {E : gE} {F z0 n0 : Nat} {r : Unit} {s' : gS}   : ∀ (l0 : Option Nat)  (s : gS), f_J23_init_0 (gk E) F  l0 s = some (r, s') → W_J23_init E z0 n0 r s' 0 [(0, vR l0)] [] s := by
  intro l0 s hB
  unfold f_J23_init_0 at hB
  refine gw_aload_n 0 rfl dJ23_init_0 ?_
  obtain ⟨u0, hu1, hB⟩ := gB1_some hB
  refine gw_objInit (gsm_spec hu1) q1256 q172 q173 (Nat.le_of_ble_eq_true rfl) (Nat.le_of_ble_eq_true rfl) dJ23_init_1 ?_
  obtain ⟨rfl, rfl⟩ := Prod.mk.inj (Option.some.inj hB)
  exact gw_vret rfl rfl rfl dJ23_init_4
noncomputable def f_J23_init (κ : gK) (F : Nat) (a0 : Option Nat) (s : gS) : Option (Unit × gS) := f_J23_init_0 κ F a0 s
theorem m_J23_init {E : gE} {F : Nat} (a0 : Option Nat) (s : gS) (r : Unit) (s' : gS) (h : f_J23_init (gk E) F a0 s = some (r, s')) : gCT E 1 yJ23_init (ws_ yJ23_init cJ23_init 1 none) [vR a0] s (.inl none) s' := by
  refine gCT_of2 (fun h => absurd h (by decide)) (plainFor_of_name (by decide)) (Nat.le_of_ble_eq_true rfl) ?_
  exact gw_sub [0] rfl (w_J23_init_0 _ _ h)
theorem dJ26_init_0 : decode cJ26_init 0 = .ok (.aload_n 0, 1) := by decide +kernel
theorem dJ26_init_1 : decode cJ26_init 1 = .ok (.invokespecial 1, 3) := by decide +kernel
theorem dJ26_init_4 : decode cJ26_init 4 = .ok (.return_, 1) := by decide +kernel
/-! java/util/AbstractSet.<init>()V -/
abbrev M_J26_init (z0 n0 : Nat) (s' : gS) : gM := (RJ26, cJ26_init, 1, none, "<init>", [], 2, z0, n0, s'.2.1, s'.2.2)
abbrev W_J26_init (E : gE) (z0 n0 : Nat) (r : Unit) (s' : gS) (pc : Nat) (L : List (Nat × gV)) (st : List gV) (s : gS) : Prop := gW E (M_J26_init z0 n0 s') (gQm E (M_J26_init z0 n0 s') (.inl none) s') pc L st s
noncomputable def f_J26_init_0 (κ : gK) (F : Nat)  (l0 : Option Nat) (s : gS) : Option (Unit × gS) :=
  gB1 (gsm l0) fun _ =>
  gB2 (f_J23_init κ F l0  s) fun v2 s1 =>
  some ((), s1)
set_option maxHeartbeats 4000000 in
theorem w_J26_init_0 {E : gE} {F z0 n0 : Nat} {r : Unit} {s' : gS}   : ∀ (l0 : Option Nat)  (s : gS), f_J26_init_0 (gk E) F  l0 s = some (r, s') → W_J26_init E z0 n0 r s' 0 [(0, vR l0)] [] s := by
  intro l0 s hB
  unfold f_J26_init_0 at hB
  refine gw_aload_n 0 rfl dJ26_init_0 ?_
  obtain ⟨u0, hu3, hB⟩ := gB1_some hB
  obtain ⟨v2, s1, hv2, hB⟩ := gB2_some hB
  refine gw_callI (y := yJ23_init) (lw_meth q1255) q140 q1481 q1254 rfl hdS_J23_init (gsm_spec hu3) (As := []) (rest := []) (m_J23_init _ _ _ _ hv2) (Nat.le_of_ble_eq_true rfl) (Nat.le_of_ble_eq_true rfl) rfl (Nat.le_of_ble_eq_true rfl) dJ26_init_1 (gCont_v ?_)
  obtain ⟨rfl, rfl⟩ := Prod.mk.inj (Option.some.inj hB)
  exact gw_vret rfl rfl rfl dJ26_init_4
noncomputable def f_J26_init (κ : gK) (F : Nat) (a0 : Option Nat) (s : gS) : Option (Unit × gS) := f_J26_init_0 κ F a0 s
theorem m_J26_init {E : gE} {F : Nat} (a0 : Option Nat) (s : gS) (r : Unit) (s' : gS) (h : f_J26_init (gk E) F a0 s = some (r, s')) : gCT E 2 yJ26_init (ws_ yJ26_init cJ26_init 1 none) [vR a0] s (.inl none) s' := by
  refine gCT_of2 (fun h => absurd h (by decide)) (plainFor_of_name (by decide)) (Nat.le_of_ble_eq_true rfl) ?_
  exact gw_sub [0] rfl (w_J26_init_0 _ _ h)
theorem dJ0_init_0 : decode cJ0_init 0 = .ok (.aload_n 0, 1) := by decide +kernel
theorem dJ0_init_1 : decode cJ0_init 1 = .ok (.invokespecial 1, 3) := by decide +kernel
theorem dJ0_init_4 : decode cJ0_init 4 = .ok (.return_, 1) := by decide +kernel
/-! java/util/AbstractMap.<init>()V -/
abbrev M_J0_init (z0 n0 : Nat) (s' : gS) : gM := (RJ0, cJ0_init, 1, none, "<init>", [], 1, z0, n0, s'.2.1, s'.2.2)
abbrev W_J0_init (E : gE) (z0 n0 : Nat) (r : Unit) (s' : gS) (pc : Nat) (L : List (Nat × gV)) (st : List gV) (s : gS) : Prop := gW E (M_J0_init z0 n0 s') (gQm E (M_J0_init z0 n0 s') (.inl none) s') pc L st s
noncomputable def f_J0_init_0 (κ : gK) (F : Nat)  (l0 : Option Nat) (s : gS) : Option (Unit × gS) :=
  gB1 (gsm l0) fun _ =>
  some ((), s)
set_option maxHeartbeats 4000000 in
theorem w_J0_init_0 {E : gE} {F z0 n0 : Nat} {r : Unit} {s' : gS}   : ∀ (l0 : Option Nat)  (s : gS), f_J0_init_0 (gk E) F  l0 s = some (r, s') → W_J0_init E z0 n0 r s' 0 [(0, vR l0)] [] s := by
  intro l0 s hB
  unfold f_J0_init_0 at hB
  refine gw_aload_n 0 rfl dJ0_init_0 ?_
  obtain ⟨u0, hu1, hB⟩ := gB1_some hB
  refine gw_objInit (gsm_spec hu1) q227 q172 q173 (Nat.le_of_ble_eq_true rfl) (Nat.le_of_ble_eq_true rfl) dJ0_init_1 ?_
  obtain ⟨rfl, rfl⟩ := Prod.mk.inj (Option.some.inj hB)
  exact gw_vret rfl rfl rfl dJ0_init_4
noncomputable def f_J0_init (κ : gK) (F : Nat) (a0 : Option Nat) (s : gS) : Option (Unit × gS) := f_J0_init_0 κ F a0 s
theorem m_J0_init {E : gE} {F : Nat} (a0 : Option Nat) (s : gS) (r : Unit) (s' : gS) (h : f_J0_init (gk E) F a0 s = some (r, s')) : gCT E 1 yJ0_init (ws_ yJ0_init cJ0_init 1 none) [vR a0] s (.inl none) s' := by
  refine gCT_of2 (fun h => absurd h (by decide)) (plainFor_of_name (by decide)) (Nat.le_of_ble_eq_true rfl) ?_
  exact gw_sub [0] rfl (w_J0_init_0 _ _ h)
def dkwJ12_init_1 : List UInt8 := [167, 0, 16, 42, 27, 184, 0, 26, 181, 0, 15, 42, 4, 181, 0, 22, 177]
abbrev dktJ12_init_1 : List UInt8 := dkwJ12_init_1 ++ []
def dkwJ12_init_0 : List UInt8 := [42, 183, 0, 3, 178, 0, 18, 153, 0, 18, 42, 27, 188, 8, 181, 0, 15, 42, 3, 181, 0, 22]
abbrev dktJ12_init_0 : List UInt8 := dkwJ12_init_0 ++ dktJ12_init_1
theorem dksJ12_init_0 : cJ12_init.data.toList.drop 0 = dktJ12_init_0 := by decide +kernel
theorem dksJ12_init_1 : cJ12_init.data.toList.drop 22 = dktJ12_init_1 := dk_seg dksJ12_init_0 22 rfl rfl
theorem dJ12_init_0 : decode cJ12_init 0 = .ok (.aload_n 0, 1) := dk_42 (dk_at dksJ12_init_0 0 rfl rfl)
theorem dJ12_init_1 : decode cJ12_init 1 = .ok (.invokespecial 3, 3) := dk_183 0 3 (dk_at dksJ12_init_0 1 rfl rfl)
theorem dJ12_init_4 : decode cJ12_init 4 = .ok (.getstatic 18, 3) := dk_178 0 18 (dk_at dksJ12_init_0 4 rfl rfl)
theorem dJ12_init_7 : decode cJ12_init 7 = .ok (.ifCond .eq 18, 3) := dk_153 0 18 (dk_at dksJ12_init_0 7 rfl rfl)
theorem dJ12_init_10 : decode cJ12_init 10 = .ok (.aload_n 0, 1) := dk_42 (dk_at dksJ12_init_0 10 rfl rfl)
theorem dJ12_init_11 : decode cJ12_init 11 = .ok (.iload_n 1, 1) := dk_27 (dk_at dksJ12_init_0 11 rfl rfl)
theorem dJ12_init_12 : decode cJ12_init 12 = .ok (.newarray .byte, 2) := dk_188_8 (dk_at dksJ12_init_0 12 rfl rfl)
theorem dJ12_init_14 : decode cJ12_init 14 = .ok (.putfield 15, 3) := dk_181 0 15 (dk_at dksJ12_init_0 14 rfl rfl)
theorem dJ12_init_17 : decode cJ12_init 17 = .ok (.aload_n 0, 1) := dk_42 (dk_at dksJ12_init_0 17 rfl rfl)
theorem dJ12_init_18 : decode cJ12_init 18 = .ok (.iconst 0, 1) := dk_3 (dk_at dksJ12_init_0 18 rfl rfl)
theorem dJ12_init_19 : decode cJ12_init 19 = .ok (.putfield 22, 3) := dk_181 0 22 (dk_at dksJ12_init_0 19 rfl rfl)
theorem dJ12_init_22 : decode cJ12_init 22 = .ok (.goto 16, 3) := dk_167 0 16 (dk_at dksJ12_init_1 0 rfl rfl)
theorem dJ12_init_25 : decode cJ12_init 25 = .ok (.aload_n 0, 1) := dk_42 (dk_at dksJ12_init_1 3 rfl rfl)
theorem dJ12_init_26 : decode cJ12_init 26 = .ok (.iload_n 1, 1) := dk_27 (dk_at dksJ12_init_1 4 rfl rfl)
theorem dJ12_init_27 : decode cJ12_init 27 = .ok (.invokestatic 26, 3) := dk_184 0 26 (dk_at dksJ12_init_1 5 rfl rfl)
theorem dJ12_init_30 : decode cJ12_init 30 = .ok (.putfield 15, 3) := dk_181 0 15 (dk_at dksJ12_init_1 8 rfl rfl)
theorem dJ12_init_33 : decode cJ12_init 33 = .ok (.aload_n 0, 1) := dk_42 (dk_at dksJ12_init_1 11 rfl rfl)
theorem dJ12_init_34 : decode cJ12_init 34 = .ok (.iconst 1, 1) := dk_4 (dk_at dksJ12_init_1 12 rfl rfl)
theorem dJ12_init_35 : decode cJ12_init 35 = .ok (.putfield 22, 3) := dk_181 0 22 (dk_at dksJ12_init_1 13 rfl rfl)
theorem dJ12_init_38 : decode cJ12_init 38 = .ok (.return_, 1) := dk_177 (dk_at dksJ12_init_1 16 rfl rfl)
/-! java/lang/AbstractStringBuilder.<init>(I)V -/
abbrev M_J12_init (z0 n0 : Nat) (s' : gS) : gM := (RJ12, cJ12_init, 2, none, "<init>", [], 1, z0, n0, s'.2.1, s'.2.2)
abbrev W_J12_init (E : gE) (z0 n0 : Nat) (r : Unit) (s' : gS) (pc : Nat) (L : List (Nat × gV)) (st : List gV) (s : gS) : Prop := gW E (M_J12_init z0 n0 s') (gQm E (M_J12_init z0 n0 s') (.inl none) s') pc L st s
noncomputable def f_J12_init_38 (κ : gK) (F : Nat)   (s : gS) : Option (Unit × gS) :=
  some ((), s)
set_option maxHeartbeats 4000000 in
theorem w_J12_init_38 {E : gE} {F z0 n0 : Nat} {r : Unit} {s' : gS}   : ∀   (s : gS), f_J12_init_38 (gk E) F   s = some (r, s') → W_J12_init E z0 n0 r s' 38 [] [] s := by
  intro  s hB
  unfold f_J12_init_38 at hB
  obtain ⟨rfl, rfl⟩ := Prod.mk.inj (Option.some.inj hB)
  exact gw_vret rfl rfl rfl dJ12_init_38
noncomputable def f_J12_init_0 (κ : gK) (F : Nat)  (l0 : Option Nat) (l1 : Int32) (s : gS) : Option (Unit × gS) :=
  gB1 (gsm l0) fun _ =>
  if (1 : Int32) = 0 then
    none
  else
    gB2 (gna s 2 l1) fun v2 s3 =>
    gB1 (gpf κ s3 l0 17 0 (va_rf v2)) fun s4 =>
    gB1 (gok .byte (0 : Int32)) fun _ =>
    gB1 (gpf κ s4 l0 17 1 (.int (0 : Int32))) fun s6 =>
    f_J12_init_38 κ F  s6
set_option maxHeartbeats 4000000 in
theorem w_J12_init_0 {E : gE} {F z0 n0 : Nat} {r : Unit} {s' : gS}   : ∀ (l0 : Option Nat) (l1 : Int32)  (s : gS), f_J12_init_0 (gk E) F  l0 l1 s = some (r, s') → W_J12_init E z0 n0 r s' 0 [(0, vR l0), (1, vI l1)] [] s := by
  intro l0 l1 s hB
  unfold f_J12_init_0 at hB
  refine gw_aload_n 0 rfl dJ12_init_0 ?_
  obtain ⟨u0, hu1, hB⟩ := gB1_some hB
  refine gw_objInit (gsm_spec hu1) q492 q172 q173 (Nat.le_of_ble_eq_true rfl) (Nat.le_of_ble_eq_true rfl) dJ12_init_1 ?_
  refine gw_getsi (v := (1 : Int32)) (by decide) q493 dJ12_init_4 ?_
  refine gw_if_eq (tgt := 25) dJ12_init_7 (by decide) (fun hcnd => ?_) (fun hcnd => ?_)
  · rw [if_pos hcnd] at hB
    refine gw_aload_n 0 rfl dJ12_init_25 ?_
    refine gw_iload_n 1 rfl dJ12_init_26 ?_
    cases hB
  · rw [if_neg hcnd] at hB
    refine gw_aload_n 0 rfl dJ12_init_10 ?_
    refine gw_iload_n 1 rfl dJ12_init_11 ?_
    obtain ⟨v2, s3, hv2, hB⟩ := gB2_some hB
    refine gw_newarr (atype := .byte) (t := 2) rfl rfl rfl (by decide) rfl q515 hv2 dJ12_init_12 ?_
    obtain ⟨s4, hs4, hB⟩ := gB1_some hB
    refine gw_putf (C := RJ13) (T := TJ13) (N := 4) (k := 0) tyJ13 tyJ13_ok nmJ13 gcl17 (by decide) in_J13 q501 rfl (tyJ13_ok 0 (by decide)) (gNF_a _ _) hs4 dJ12_init_14 ?_
    refine gw_aload_n 0 rfl dJ12_init_17 ?_
    refine gw_iconst (v := (0 : Int32)) (by decide) dJ12_init_18 ?_
    obtain ⟨u0, hu5, hB⟩ := gB1_some hB
    obtain ⟨s6, hs6, hB⟩ := gB1_some hB
    refine gw_putf (C := RJ13) (T := TJ13) (N := 4) (k := 1) tyJ13 tyJ13_ok nmJ13 gcl17 (by decide) in_J13 q502 rfl (tyJ13_ok 1 (by decide)) (gok_spec hu5) hs6 dJ12_init_19 ?_
    refine gw_goto (tgt := 38) dJ12_init_22 (by decide) ?_
    exact gw_sub [] rfl (w_J12_init_38   _ hB)
noncomputable def f_J12_init (κ : gK) (F : Nat) (a0 : Option Nat) (a1 : Int32) (s : gS) : Option (Unit × gS) := f_J12_init_0 κ F a0 a1 s
theorem m_J12_init {E : gE} {F : Nat} (a0 : Option Nat) (a1 : Int32) (s : gS) (r : Unit) (s' : gS) (h : f_J12_init (gk E) F a0 a1 s = some (r, s')) : gCT E 1 yJ12_init (ws_ yJ12_init cJ12_init 2 none) [vR a0, vI a1] s (.inl none) s' := by
  refine gCT_of2 (fun h => absurd h (by decide)) (plainFor_of_name (by decide)) (Nat.le_of_ble_eq_true rfl) ?_
  exact gw_sub [0, 1] rfl (w_J12_init_0 _ _ _ h)
def dkwJ13_init_0 : List UInt8 := [42, 16, 16, 183, 0, 1, 177]
abbrev dktJ13_init_0 : List UInt8 := dkwJ13_init_0 ++ []
theorem dksJ13_init_0 : cJ13_init.data.toList.drop 0 = dktJ13_init_0 := by decide +kernel
theorem dJ13_init_0 : decode cJ13_init 0 = .ok (.aload_n 0, 1) := dk_42 (dk_at dksJ13_init_0 0 rfl rfl)
theorem dJ13_init_1 : decode cJ13_init 1 = .ok (.bipush 16, 2) := dk_16 16 (dk_at dksJ13_init_0 1 rfl rfl)
theorem dJ13_init_3 : decode cJ13_init 3 = .ok (.invokespecial 1, 3) := dk_183 0 1 (dk_at dksJ13_init_0 3 rfl rfl)
theorem dJ13_init_6 : decode cJ13_init 6 = .ok (.return_, 1) := dk_177 (dk_at dksJ13_init_0 6 rfl rfl)
/-! java/lang/StringBuilder.<init>()V -/
abbrev M_J13_init (z0 n0 : Nat) (s' : gS) : gM := (RJ13, cJ13_init, 1, none, "<init>", [], 2, z0, n0, s'.2.1, s'.2.2)
abbrev W_J13_init (E : gE) (z0 n0 : Nat) (r : Unit) (s' : gS) (pc : Nat) (L : List (Nat × gV)) (st : List gV) (s : gS) : Prop := gW E (M_J13_init z0 n0 s') (gQm E (M_J13_init z0 n0 s') (.inl none) s') pc L st s
noncomputable def f_J13_init_0 (κ : gK) (F : Nat)  (l0 : Option Nat) (s : gS) : Option (Unit × gS) :=
  gB1 (gsm l0) fun _ =>
  gB2 (f_J12_init κ F l0 (16 : Int32) s) fun v2 s1 =>
  some ((), s1)
set_option maxHeartbeats 4000000 in
theorem w_J13_init_0 {E : gE} {F z0 n0 : Nat} {r : Unit} {s' : gS}   : ∀ (l0 : Option Nat)  (s : gS), f_J13_init_0 (gk E) F  l0 s = some (r, s') → W_J13_init E z0 n0 r s' 0 [(0, vR l0)] [] s := by
  intro l0 s hB
  unfold f_J13_init_0 at hB
  refine gw_aload_n 0 rfl dJ13_init_0 ?_
  refine gw_bipush (v := (16 : Int32)) (by decide) dJ13_init_1 ?_
  obtain ⟨u0, hu3, hB⟩ := gB1_some hB
  obtain ⟨v2, s1, hv2, hB⟩ := gB2_some hB
  refine gw_callI (y := yJ12_init) (lw_meth q491) q127 q489 q490 rfl hdS_J12_init (gsm_spec hu3) (As := [vI (16 : Int32)]) (rest := []) (m_J12_init _ _ _ _ _ hv2) (Nat.le_of_ble_eq_true rfl) (Nat.le_of_ble_eq_true rfl) rfl (Nat.le_of_ble_eq_true rfl) dJ13_init_3 (gCont_v ?_)
  obtain ⟨rfl, rfl⟩ := Prod.mk.inj (Option.some.inj hB)
  exact gw_vret rfl rfl rfl dJ13_init_6
noncomputable def f_J13_init (κ : gK) (F : Nat) (a0 : Option Nat) (s : gS) : Option (Unit × gS) := f_J13_init_0 κ F a0 s
theorem m_J13_init {E : gE} {F : Nat} (a0 : Option Nat) (s : gS) (r : Unit) (s' : gS) (h : f_J13_init (gk E) F a0 s = some (r, s')) : gCT E 2 yJ13_init (ws_ yJ13_init cJ13_init 1 none) [vR a0] s (.inl none) s' := by
  refine gCT_of2 (fun h => absurd h (by decide)) (plainFor_of_name (by decide)) (Nat.le_of_ble_eq_true rfl) ?_
  exact gw_sub [0] rfl (w_J13_init_0 _ _ h)
def dkwJ12_isLatin1_0 : List UInt8 := [178, 0, 18, 153, 0, 14, 42, 180, 0, 22, 154, 0, 7, 4, 167, 0, 4, 3, 172]
abbrev dktJ12_isLatin1_0 : List UInt8 := dkwJ12_isLatin1_0 ++ []
theorem dksJ12_isLatin1_0 : cJ12_isLatin1.data.toList.drop 0 = dktJ12_isLatin1_0 := by decide +kernel
theorem dJ12_isLatin1_0 : decode cJ12_isLatin1 0 = .ok (.getstatic 18, 3) := dk_178 0 18 (dk_at dksJ12_isLatin1_0 0 rfl rfl)
theorem dJ12_isLatin1_3 : decode cJ12_isLatin1 3 = .ok (.ifCond .eq 14, 3) := dk_153 0 14 (dk_at dksJ12_isLatin1_0 3 rfl rfl)
theorem dJ12_isLatin1_6 : decode cJ12_isLatin1 6 = .ok (.aload_n 0, 1) := dk_42 (dk_at dksJ12_isLatin1_0 6 rfl rfl)
theorem dJ12_isLatin1_7 : decode cJ12_isLatin1 7 = .ok (.getfield 22, 3) := dk_180 0 22 (dk_at dksJ12_isLatin1_0 7 rfl rfl)
theorem dJ12_isLatin1_10 : decode cJ12_isLatin1 10 = .ok (.ifCond .ne 7, 3) := dk_154 0 7 (dk_at dksJ12_isLatin1_0 10 rfl rfl)
theorem dJ12_isLatin1_13 : decode cJ12_isLatin1 13 = .ok (.iconst 1, 1) := dk_4 (dk_at dksJ12_isLatin1_0 13 rfl rfl)
theorem dJ12_isLatin1_14 : decode cJ12_isLatin1 14 = .ok (.goto 4, 3) := dk_167 0 4 (dk_at dksJ12_isLatin1_0 14 rfl rfl)
theorem dJ12_isLatin1_17 : decode cJ12_isLatin1 17 = .ok (.iconst 0, 1) := dk_3 (dk_at dksJ12_isLatin1_0 17 rfl rfl)
theorem dJ12_isLatin1_18 : decode cJ12_isLatin1 18 = .ok (.ireturn, 1) := dk_172 (dk_at dksJ12_isLatin1_0 18 rfl rfl)
/-! java/lang/AbstractStringBuilder.isLatin1()Z -/
abbrev M_J12_isLatin1 (z0 n0 : Nat) (s' : gS) : gM := (RJ12, cJ12_isLatin1, 1, (some FieldType.boolean), "isLatin1", [], 1, z0, n0, s'.2.1, s'.2.2)
abbrev W_J12_isLatin1 (E : gE) (z0 n0 : Nat) (r : Int32) (s' : gS) (pc : Nat) (L : List (Nat × gV)) (st : List gV) (s : gS) : Prop := gW E (M_J12_isLatin1 z0 n0 s') (gQm E (M_J12_isLatin1 z0 n0 s') (.inl (some (vI r))) s') pc L st s
noncomputable def f_J12_isLatin1_18 (κ : gK) (F : Nat)  (t0 : Int32) (s : gS) : Option (Int32 × gS) :=
  gB1 (gok .boolean t0) fun _ => some (t0, s)
set_option maxHeartbeats 4000000 in
theorem w_J12_isLatin1_18 {E : gE} {F z0 n0 : Nat} {r : Int32} {s' : gS}   : ∀  (t0 : Int32) (s : gS), f_J12_isLatin1_18 (gk E) F  t0 s = some (r, s') → W_J12_isLatin1 E z0 n0 r s' 18 [] [vI t0] s := by
  intro t0 s hB
  unfold f_J12_isLatin1_18 at hB
  obtain ⟨u, hu, hB⟩ := gB1_some hB
  obtain ⟨rfl, rfl⟩ := Prod.mk.inj (Option.some.inj hB)
  exact gw_zret rfl hu rfl rfl dJ12_isLatin1_18
noncomputable def f_J12_isLatin1_17 (κ : gK) (F : Nat)   (s : gS) : Option (Int32 × gS) :=
  f_J12_isLatin1_18 κ F  (0 : Int32) s
set_option maxHeartbeats 4000000 in
theorem w_J12_isLatin1_17 {E : gE} {F z0 n0 : Nat} {r : Int32} {s' : gS}   : ∀   (s : gS), f_J12_isLatin1_17 (gk E) F   s = some (r, s') → W_J12_isLatin1 E z0 n0 r s' 17 [] [] s := by
  intro  s hB
  unfold f_J12_isLatin1_17 at hB
  refine gw_iconst (v := (0 : Int32)) (by decide) dJ12_isLatin1_17 ?_
  exact gw_sub [] rfl (w_J12_isLatin1_18  _ _ hB)
noncomputable def f_J12_isLatin1_0 (κ : gK) (F : Nat)  (l0 : Option Nat) (s : gS) : Option (Int32 × gS) :=
  if (1 : Int32) = 0 then
    f_J12_isLatin1_17 κ F  s
  else
    gB1 (gfI s l0 17 1) fun v1 =>
    if v1 = 0 then
      f_J12_isLatin1_18 κ F  (1 : Int32) s
    else
      f_J12_isLatin1_17 κ F  s
set_option maxHeartbeats 4000000 in
theorem w_J12_isLatin1_0 {E : gE} {F z0 n0 : Nat} {r : Int32} {s' : gS}   : ∀ (l0 : Option Nat)  (s : gS), f_J12_isLatin1_0 (gk E) F  l0 s = some (r, s') → W_J12_isLatin1 E z0 n0 r s' 0 [(0, vR l0)] [] s := by
  intro l0 s hB
  unfold f_J12_isLatin1_0 at hB
  refine gw_getsi (v := (1 : Int32)) (by decide) q493 dJ12_isLatin1_0 ?_
  refine gw_if_eq (tgt := 17) dJ12_isLatin1_3 (by decide) (fun hcnd => ?_) (fun hcnd => ?_)
  · rw [if_pos hcnd] at hB
    exact gw_sub [] rfl (w_J12_isLatin1_17   _ hB)
  · rw [if_neg hcnd] at hB
    refine gw_aload_n 0 rfl dJ12_isLatin1_6 ?_
    obtain ⟨v1, hv1, hB⟩ := gB1_some hB
    refine gw_getf (C := RJ13) (T := TJ13) (N := 4) (k := 1) gcl17 (by decide) in_J13 q502 (gfI_spec hv1) dJ12_isLatin1_7 ?_
    refine gw_if_ne (tgt := 17) dJ12_isLatin1_10 (by decide) (fun hcnd => ?_) (fun hcnd => ?_)
    · rw [if_neg hcnd] at hB
      exact gw_sub [] rfl (w_J12_isLatin1_17   _ hB)
    · rw [if_pos hcnd] at hB
      refine gw_iconst (v := (1 : Int32)) (by decide) dJ12_isLatin1_13 ?_
      refine gw_goto (tgt := 18) dJ12_isLatin1_14 (by decide) ?_
      exact gw_sub [] rfl (w_J12_isLatin1_18  _ _ hB)
noncomputable def f_J12_isLatin1 (κ : gK) (F : Nat) (a0 : Option Nat) (s : gS) : Option (Int32 × gS) := f_J12_isLatin1_0 κ F a0 s
theorem m_J12_isLatin1 {E : gE} {F : Nat} (a0 : Option Nat) (s : gS) (r : Int32) (s' : gS) (h : f_J12_isLatin1 (gk E) F a0 s = some (r, s')) : gCT E 1 yJ12_isLatin1 (ws_ yJ12_isLatin1 cJ12_isLatin1 1 (some FieldType.boolean)) [vR a0] s (.inl (some (vI r))) s' := by
  refine gCT_of2 (fun h => absurd h (by decide)) (plainFor_of_name (by decide)) (Nat.le_of_ble_eq_true rfl) ?_
  exact gw_sub [0] rfl (w_J12_isLatin1_0 _ _ h)
theorem dJ12_getValue_0 : decode cJ12_getValue 0 = .ok (.aload_n 0, 1) := by decide +kernel
theorem dJ12_getValue_1 : decode cJ12_getValue 1 = .ok (.getfield 15, 3) := by decide +kernel
theorem dJ12_getValue_4 : decode cJ12_getValue 4 = .ok (.areturn, 1) := by decide +kernel
/-! java/lang/AbstractStringBuilder.getValue()[B -/
abbrev M_J12_getValue (z0 n0 : Nat) (s' : gS) : gM := (RJ12, cJ12_getValue, 1, (some (FieldType.array FieldType.byte)), "getValue", [], 1, z0, n0, s'.2.1, s'.2.2)
abbrev W_J12_getValue (E : gE) (z0 n0 : Nat) (r : (Option Nat)) (s' : gS) (pc : Nat) (L : List (Nat × gV)) (st : List gV) (s : gS) : Prop := gW E (M_J12_getValue z0 n0 s') (gQm E (M_J12_getValue z0 n0 s') (.inl (some (vR r))) s') pc L st s
noncomputable def f_J12_getValue_0 (κ : gK) (F : Nat)  (l0 : Option Nat) (s : gS) : Option ((Option Nat) × gS) :=
  gB1 (gfR s l0 17 0) fun v1 =>
  some (v1, s)
set_option maxHeartbeats 4000000 in
theorem w_J12_getValue_0 {E : gE} {F z0 n0 : Nat} {r : (Option Nat)} {s' : gS}   : ∀ (l0 : Option Nat)  (s : gS), f_J12_getValue_0 (gk E) F  l0 s = some (r, s') → W_J12_getValue E z0 n0 r s' 0 [(0, vR l0)] [] s := by
  intro l0 s hB
  unfold f_J12_getValue_0 at hB
  refine gw_aload_n 0 rfl dJ12_getValue_0 ?_
  obtain ⟨v1, hv1, hB⟩ := gB1_some hB
  refine gw_getf (C := RJ13) (T := TJ13) (N := 4) (k := 0) gcl17 (by decide) in_J13 q501 (gfR_spec hv1) dJ12_getValue_1 ?_
  obtain ⟨rfl, rfl⟩ := Prod.mk.inj (Option.some.inj hB)
  exact gw_aret rfl (Or.inr ⟨_, rfl⟩) rfl rfl dJ12_getValue_4
noncomputable def f_J12_getValue (κ : gK) (F : Nat) (a0 : Option Nat) (s : gS) : Option ((Option Nat) × gS) := f_J12_getValue_0 κ F a0 s
theorem m_J12_getValue {E : gE} {F : Nat} (a0 : Option Nat) (s : gS) (r : (Option Nat)) (s' : gS) (h : f_J12_getValue (gk E) F a0 s = some (r, s')) : gCT E 1 yJ12_getValue (ws_ yJ12_getValue cJ12_getValue 1 (some (FieldType.array FieldType.byte))) [vR a0] s (.inl (some (vR r))) s' := by
  refine gCT_of2 (fun h => absurd h (by decide)) (plainFor_of_name (by decide)) (Nat.le_of_ble_eq_true rfl) ?_
  exact gw_sub [0] rfl (w_J12_getValue_0 _ _ h)
theorem dJ12_length_0 : decode cJ12_length 0 = .ok (.aload_n 0, 1) := by decide +kernel
theorem dJ12_length_1 : decode cJ12_length 1 = .ok (.getfield 79, 3) := by decide +kernel
theorem dJ12_length_4 : decode cJ12_length 4 = .ok (.ireturn, 1) := by decide +kernel
/-! java/lang/AbstractStringBuilder.length()I -/
abbrev M_J12_length (z0 n0 : Nat) (s' : gS) : gM := (RJ12, cJ12_length, 1, (some FieldType.int), "length", [], 1, z0, n0, s'.2.1, s'.2.2)
abbrev W_J12_length (E : gE) (z0 n0 : Nat) (r : Int32) (s' : gS) (pc : Nat) (L : List (Nat × gV)) (st : List gV) (s : gS) : Prop := gW E (M_J12_length z0 n0 s') (gQm E (M_J12_length z0 n0 s') (.inl (some (vI r))) s') pc L st s
noncomputable def f_J12_length_0 (κ : gK) (F : Nat)  (l0 : Option Nat) (s : gS) : Option (Int32 × gS) :=
  gB1 (gfI s l0 17 3) fun v1 =>
  some (v1, s)
set_option maxHeartbeats 4000000 in
theorem w_J12_length_0 {E : gE} {F z0 n0 : Nat} {r : Int32} {s' : gS}   : ∀ (l0 : Option Nat)  (s : gS), f_J12_length_0 (gk E) F  l0 s = some (r, s') → W_J12_length E z0 n0 r s' 0 [(0, vR l0)] [] s := by
  intro l0 s hB
  unfold f_J12_length_0 at hB
  refine gw_aload_n 0 rfl dJ12_length_0 ?_
  obtain ⟨v1, hv1, hB⟩ := gB1_some hB
  refine gw_getf (C := RJ13) (T := TJ13) (N := 4) (k := 3) gcl17 (by decide) in_J13 q505 (gfI_spec hv1) dJ12_length_1 ?_
  obtain ⟨rfl, rfl⟩ := Prod.mk.inj (Option.some.inj hB)
  exact gw_iret rfl rfl rfl dJ12_length_4
noncomputable def f_J12_length (κ : gK) (F : Nat) (a0 : Option Nat) (s : gS) : Option (Int32 × gS) := f_J12_length_0 κ F a0 s
theorem m_J12_length {E : gE} {F : Nat} (a0 : Option Nat) (s : gS) (r : Int32) (s' : gS) (h : f_J12_length (gk E) F a0 s = some (r, s')) : gCT E 1 yJ12_length (ws_ yJ12_length cJ12_length 1 (some FieldType.int)) [vR a0] s (.inl (some (vI r))) s' := by
  refine gCT_of2 (fun h => absurd h (by decide)) (plainFor_of_name (by decide)) (Nat.le_of_ble_eq_true rfl) ?_
  exact gw_sub [0] rfl (w_J12_length_0 _ _ h)
theorem dJ13_length_0 : decode cJ13_length 0 = .ok (.aload_n 0, 1) := by decide +kernel
theorem dJ13_length_1 : decode cJ13_length 1 = .ok (.invokespecial 343, 3) := by decide +kernel
theorem dJ13_length_4 : decode cJ13_length 4 = .ok (.ireturn, 1) := by decide +kernel
/-! java/lang/StringBuilder.length()I -/
abbrev M_J13_length (z0 n0 : Nat) (s' : gS) : gM := (RJ13, cJ13_length, 1, (some FieldType.int), "length", [], 2, z0, n0, s'.2.1, s'.2.2)
abbrev W_J13_length (E : gE) (z0 n0 : Nat) (r : Int32) (s' : gS) (pc : Nat) (L : List (Nat × gV)) (st : List gV) (s : gS) : Prop := gW E (M_J13_length z0 n0 s') (gQm E (M_J13_length z0 n0 s') (.inl (some (vI r))) s') pc L st s
noncomputable def f_J13_length_0 (κ : gK) (F : Nat)  (l0 : Option Nat) (s : gS) : Option (Int32 × gS) :=
  gB1 (gck s l0 17) fun _ =>
  gB2 (f_J12_length κ F l0  s) fun v2 s1 =>
  some (v2, s1)
set_option maxHeartbeats 4000000 in
theorem w_J13_length_0 {E : gE} {F z0 n0 : Nat} {r : Int32} {s' : gS}   : ∀ (l0 : Option Nat)  (s : gS), f_J13_length_0 (gk E) F  l0 s = some (r, s') → W_J13_length E z0 n0 r s' 0 [(0, vR l0)] [] s := by
  intro l0 s hB
  unfold f_J13_length_0 at hB
  refine gw_aload_n 0 rfl dJ13_length_0 ?_
  obtain ⟨u0, hu3, hB⟩ := gB1_some hB
  obtain ⟨v2, s1, hv2, hB⟩ := gB2_some hB
  refine gw_callSU (C := "java/lang/StringBuilder") (y := yJ12_length) (lw_app (lw_in (([Cond.methodLink "java/lang/StringBuilder" 343 yJ12_length, Cond.sameMethod "java/lang/AbstractStringBuilder" "java/lang/AbstractStringBuilder" "length" "()I", Cond.superclass "java/lang/StringBuilder" "java/lang/AbstractStringBuilder", Cond.instanceMethod yJ12_length, Cond.initialized "java/lang/AbstractStringBuilder"] : List Cond)) [676, 672, 514, 671, 127] (by decide +kernel) (by decide +kernel)) (lw_meth q677)) (show _ ∧ _ = some 0 from by decide +kernel) gcl17 hu3 (As := []) (rest := []) (m_J12_length _ _ _ _ hv2) (Nat.le_of_ble_eq_true rfl) (Nat.le_of_ble_eq_true rfl) rfl (Nat.le_of_ble_eq_true rfl) dJ13_length_1 (gCont_i ?_)
  obtain ⟨rfl, rfl⟩ := Prod.mk.inj (Option.some.inj hB)
  exact gw_iret rfl rfl rfl dJ13_length_4
noncomputable def f_J13_length (κ : gK) (F : Nat) (a0 : Option Nat) (s : gS) : Option (Int32 × gS) := f_J13_length_0 κ F a0 s
theorem m_J13_length {E : gE} {F : Nat} (a0 : Option Nat) (s : gS) (r : Int32) (s' : gS) (h : f_J13_length (gk E) F a0 s = some (r, s')) : gCT E 2 yJ13_length (ws_ yJ13_length cJ13_length 1 (some FieldType.int)) [vR a0] s (.inl (some (vI r))) s' := by
  refine gCT_of2 (fun h => absurd h (by decide)) (plainFor_of_name (by decide)) (Nat.le_of_ble_eq_true rfl) ?_
  exact gw_sub [0] rfl (w_J13_length_0 _ _ h)
def dkwJ9_init_0 : List UInt8 := [42, 43, 183, 0, 7, 177]
abbrev dktJ9_init_0 : List UInt8 := dkwJ9_init_0 ++ []
theorem dksJ9_init_0 : cJ9_init.data.toList.drop 0 = dktJ9_init_0 := by decide +kernel
theorem dJ9_init_0 : decode cJ9_init 0 = .ok (.aload_n 0, 1) := dk_42 (dk_at dksJ9_init_0 0 rfl rfl)
theorem dJ9_init_1 : decode cJ9_init 1 = .ok (.aload_n 1, 1) := dk_43 (dk_at dksJ9_init_0 1 rfl rfl)
theorem dJ9_init_2 : decode cJ9_init 2 = .ok (.invokespecial 7, 3) := dk_183 0 7 (dk_at dksJ9_init_0 2 rfl rfl)
theorem dJ9_init_5 : decode cJ9_init 5 = .ok (.return_, 1) := dk_177 (dk_at dksJ9_init_0 5 rfl rfl)
/-! java/lang/Exception.<init>(Ljava/lang/String;)V -/
abbrev M_J9_init (z0 n0 : Nat) (s' : gS) : gM := (RJ9, cJ9_init, 2, none, "<init>", [], 1, z0, n0, s'.2.1, s'.2.2)
abbrev W_J9_init (E : gE) (z0 n0 : Nat) (r : Unit) (s' : gS) (pc : Nat) (L : List (Nat × gV)) (st : List gV) (s : gS) : Prop := gW E (M_J9_init z0 n0 s') (gQm E (M_J9_init z0 n0 s') (.inl none) s') pc L st s
noncomputable def f_J9_init_0 (κ : gK) (F : Nat)  (l0 : Option Nat) (l1 : Option Nat) (s : gS) : Option (Unit × gS) :=
  none
set_option maxHeartbeats 4000000 in
theorem w_J9_init_0 {E : gE} {F z0 n0 : Nat} {r : Unit} {s' : gS}   : ∀ (l0 : Option Nat) (l1 : Option Nat)  (s : gS), f_J9_init_0 (gk E) F  l0 l1 s = some (r, s') → W_J9_init E z0 n0 r s' 0 [(0, vR l0), (1, vR l1)] [] s := by
  intro l0 l1 s hB
  unfold f_J9_init_0 at hB
  refine gw_aload_n 0 rfl dJ9_init_0 ?_
  refine gw_aload_n 1 rfl dJ9_init_1 ?_
  cases hB
noncomputable def f_J9_init (κ : gK) (F : Nat) (a0 : Option Nat) (a1 : Option Nat) (s : gS) : Option (Unit × gS) := f_J9_init_0 κ F a0 a1 s
theorem m_J9_init {E : gE} {F : Nat} (a0 : Option Nat) (a1 : Option Nat) (s : gS) (r : Unit) (s' : gS) (h : f_J9_init (gk E) F a0 a1 s = some (r, s')) : gCT E 1 yJ9_init (ws_ yJ9_init cJ9_init 2 none) [vR a0, vR a1] s (.inl none) s' := by
  refine gCT_of2 (fun h => absurd h (by decide)) (plainFor_of_name (by decide)) (Nat.le_of_ble_eq_true rfl) ?_
  exact gw_sub [0, 1] rfl (w_J9_init_0 _ _ _ h)
def dkwJ10_init_0 : List UInt8 := [42, 43, 183, 0, 7, 177]
abbrev dktJ10_init_0 : List UInt8 := dkwJ10_init_0 ++ []
theorem dksJ10_init_0 : cJ10_init.data.toList.drop 0 = dktJ10_init_0 := by decide +kernel
theorem dJ10_init_0 : decode cJ10_init 0 = .ok (.aload_n 0, 1) := dk_42 (dk_at dksJ10_init_0 0 rfl rfl)
theorem dJ10_init_1 : decode cJ10_init 1 = .ok (.aload_n 1, 1) := dk_43 (dk_at dksJ10_init_0 1 rfl rfl)
theorem dJ10_init_2 : decode cJ10_init 2 = .ok (.invokespecial 7, 3) := dk_183 0 7 (dk_at dksJ10_init_0 2 rfl rfl)
theorem dJ10_init_5 : decode cJ10_init 5 = .ok (.return_, 1) := dk_177 (dk_at dksJ10_init_0 5 rfl rfl)
/-! java/lang/RuntimeException.<init>(Ljava/lang/String;)V -/
abbrev M_J10_init (z0 n0 : Nat) (s' : gS) : gM := (RJ10, cJ10_init, 2, none, "<init>", [], 2, z0, n0, s'.2.1, s'.2.2)
abbrev W_J10_init (E : gE) (z0 n0 : Nat) (r : Unit) (s' : gS) (pc : Nat) (L : List (Nat × gV)) (st : List gV) (s : gS) : Prop := gW E (M_J10_init z0 n0 s') (gQm E (M_J10_init z0 n0 s') (.inl none) s') pc L st s
noncomputable def f_J10_init_0 (κ : gK) (F : Nat)  (l0 : Option Nat) (l1 : Option Nat) (s : gS) : Option (Unit × gS) :=
  gB1 (gsm l0) fun _ =>
  gB2 (f_J9_init κ F l0 l1 s) fun v2 s1 =>
  some ((), s1)
set_option maxHeartbeats 4000000 in
theorem w_J10_init_0 {E : gE} {F z0 n0 : Nat} {r : Unit} {s' : gS}   : ∀ (l0 : Option Nat) (l1 : Option Nat)  (s : gS), f_J10_init_0 (gk E) F  l0 l1 s = some (r, s') → W_J10_init E z0 n0 r s' 0 [(0, vR l0), (1, vR l1)] [] s := by
  intro l0 l1 s hB
  unfold f_J10_init_0 at hB
  refine gw_aload_n 0 rfl dJ10_init_0 ?_
  refine gw_aload_n 1 rfl dJ10_init_1 ?_
  obtain ⟨u0, hu3, hB⟩ := gB1_some hB
  obtain ⟨v2, s1, hv2, hB⟩ := gB2_some hB
  refine gw_callI (y := yJ9_init) (lw_meth q703) q124 q701 q702 rfl hdS_J9_init (gsm_spec hu3) (As := [vR l1]) (rest := []) (m_J9_init _ _ _ _ _ hv2) (Nat.le_of_ble_eq_true rfl) (Nat.le_of_ble_eq_true rfl) rfl (Nat.le_of_ble_eq_true rfl) dJ10_init_2 (gCont_v ?_)
  obtain ⟨rfl, rfl⟩ := Prod.mk.inj (Option.some.inj hB)
  exact gw_vret rfl rfl rfl dJ10_init_5
noncomputable def f_J10_init (κ : gK) (F : Nat) (a0 : Option Nat) (a1 : Option Nat) (s : gS) : Option (Unit × gS) := f_J10_init_0 κ F a0 a1 s
theorem m_J10_init {E : gE} {F : Nat} (a0 : Option Nat) (a1 : Option Nat) (s : gS) (r : Unit) (s' : gS) (h : f_J10_init (gk E) F a0 a1 s = some (r, s')) : gCT E 2 yJ10_init (ws_ yJ10_init cJ10_init 2 none) [vR a0, vR a1] s (.inl none) s' := by
  refine gCT_of2 (fun h => absurd h (by decide)) (plainFor_of_name (by decide)) (Nat.le_of_ble_eq_true rfl) ?_
  exact gw_sub [0, 1] rfl (w_J10_init_0 _ _ _ h)
def dkwJ11_init_0 : List UInt8 := [42, 43, 183, 0, 7, 177]
abbrev dktJ11_init_0 : List UInt8 := dkwJ11_init_0 ++ []
theorem dksJ11_init_0 : cJ11_init.data.toList.drop 0 = dktJ11_init_0 := by decide +kernel
theorem dJ11_init_0 : decode cJ11_init 0 = .ok (.aload_n 0, 1) := dk_42 (dk_at dksJ11_init_0 0 rfl rfl)
theorem dJ11_init_1 : decode cJ11_init 1 = .ok (.aload_n 1, 1) := dk_43 (dk_at dksJ11_init_0 1 rfl rfl)
theorem dJ11_init_2 : decode cJ11_init 2 = .ok (.invokespecial 7, 3) := dk_183 0 7 (dk_at dksJ11_init_0 2 rfl rfl)
theorem dJ11_init_5 : decode cJ11_init 5 = .ok (.return_, 1) := dk_177 (dk_at dksJ11_init_0 5 rfl rfl)
/-! java/lang/IllegalArgumentException.<init>(Ljava/lang/String;)V -/
abbrev M_J11_init (z0 n0 : Nat) (s' : gS) : gM := (RJ11, cJ11_init, 2, none, "<init>", [], 3, z0, n0, s'.2.1, s'.2.2)
abbrev W_J11_init (E : gE) (z0 n0 : Nat) (r : Unit) (s' : gS) (pc : Nat) (L : List (Nat × gV)) (st : List gV) (s : gS) : Prop := gW E (M_J11_init z0 n0 s') (gQm E (M_J11_init z0 n0 s') (.inl none) s') pc L st s
noncomputable def f_J11_init_0 (κ : gK) (F : Nat)  (l0 : Option Nat) (l1 : Option Nat) (s : gS) : Option (Unit × gS) :=
  gB1 (gsm l0) fun _ =>
  gB2 (f_J10_init κ F l0 l1 s) fun v2 s1 =>
  some ((), s1)
set_option maxHeartbeats 4000000 in
theorem w_J11_init_0 {E : gE} {F z0 n0 : Nat} {r : Unit} {s' : gS}   : ∀ (l0 : Option Nat) (l1 : Option Nat)  (s : gS), f_J11_init_0 (gk E) F  l0 l1 s = some (r, s') → W_J11_init E z0 n0 r s' 0 [(0, vR l0), (1, vR l1)] [] s := by
  intro l0 l1 s hB
  unfold f_J11_init_0 at hB
  refine gw_aload_n 0 rfl dJ11_init_0 ?_
  refine gw_aload_n 1 rfl dJ11_init_1 ?_
  obtain ⟨u0, hu3, hB⟩ := gB1_some hB
  obtain ⟨v2, s1, hv2, hB⟩ := gB2_some hB
  refine gw_callI (y := yJ10_init) (lw_meth q700) q125 q698 q699 rfl hdS_J10_init (gsm_spec hu3) (As := [vR l1]) (rest := []) (m_J10_init _ _ _ _ _ hv2) (Nat.le_of_ble_eq_true rfl) (Nat.le_of_ble_eq_true rfl) rfl (Nat.le_of_ble_eq_true rfl) dJ11_init_2 (gCont_v ?_)
  obtain ⟨rfl, rfl⟩ := Prod.mk.inj (Option.some.inj hB)
  exact gw_vret rfl rfl rfl dJ11_init_5
noncomputable def f_J11_init (κ : gK) (F : Nat) (a0 : Option Nat) (a1 : Option Nat) (s : gS) : Option (Unit × gS) := f_J11_init_0 κ F a0 a1 s
theorem m_J11_init {E : gE} {F : Nat} (a0 : Option Nat) (a1 : Option Nat) (s : gS) (r : Unit) (s' : gS) (h : f_J11_init (gk E) F a0 a1 s = some (r, s')) : gCT E 3 yJ11_init (ws_ yJ11_init cJ11_init 2 none) [vR a0, vR a1] s (.inl none) s' := by
  refine gCT_of2 (fun h => absurd h (by decide)) (plainFor_of_name (by decide)) (Nat.le_of_ble_eq_true rfl) ?_
  exact gw_sub [0, 1] rfl (w_J11_init_0 _ _ _ h)
def dkwJ15_checkLength_1 : List UInt8 := [182, 0, 50, 27, 182, 0, 54, 182, 0, 61, 183, 0, 65, 191, 177]
abbrev dktJ15_checkLength_1 : List UInt8 := dkwJ15_checkLength_1 ++ []
def dkwJ15_checkLength_0 : List UInt8 := [27, 26, 162, 0, 35, 187, 0, 43, 89, 187, 0, 45, 89, 183, 0, 47, 26, 182, 0, 54, 19, 1, 81]
abbrev dktJ15_checkLength_0 : List UInt8 := dkwJ15_checkLength_0 ++ dktJ15_checkLength_1
theorem dksJ15_checkLength_0 : cJ15_checkLength.data.toList.drop 0 = dktJ15_checkLength_0 := by decide +kernel
theorem dksJ15_checkLength_1 : cJ15_checkLength.data.toList.drop 23 = dktJ15_checkLength_1 := dk_seg dksJ15_checkLength_0 23 rfl rfl
theorem dJ15_checkLength_0 : decode cJ15_checkLength 0 = .ok (.iload_n 1, 1) := dk_27 (dk_at dksJ15_checkLength_0 0 rfl rfl)
theorem dJ15_checkLength_1 : decode cJ15_checkLength 1 = .ok (.iload_n 0, 1) := dk_26 (dk_at dksJ15_checkLength_0 1 rfl rfl)
theorem dJ15_checkLength_2 : decode cJ15_checkLength 2 = .ok (.if_icmp .ge 35, 3) := dk_162 0 35 (dk_at dksJ15_checkLength_0 2 rfl rfl)
theorem dJ15_checkLength_5 : decode cJ15_checkLength 5 = .ok (.new 43, 3) := dk_187 0 43 (dk_at dksJ15_checkLength_0 5 rfl rfl)
theorem dJ15_checkLength_8 : decode cJ15_checkLength 8 = .ok (.dup, 1) := dk_89 (dk_at dksJ15_checkLength_0 8 rfl rfl)
theorem dJ15_checkLength_9 : decode cJ15_checkLength 9 = .ok (.new 45, 3) := dk_187 0 45 (dk_at dksJ15_checkLength_0 9 rfl rfl)
theorem dJ15_checkLength_12 : decode cJ15_checkLength 12 = .ok (.dup, 1) := dk_89 (dk_at dksJ15_checkLength_0 12 rfl rfl)
theorem dJ15_checkLength_13 : decode cJ15_checkLength 13 = .ok (.invokespecial 47, 3) := dk_183 0 47 (dk_at dksJ15_checkLength_0 13 rfl rfl)
theorem dJ15_checkLength_16 : decode cJ15_checkLength 16 = .ok (.iload_n 0, 1) := dk_26 (dk_at dksJ15_checkLength_0 16 rfl rfl)
theorem dJ15_checkLength_17 : decode cJ15_checkLength 17 = .ok (.invokevirtual 54, 3) := dk_182 0 54 (dk_at dksJ15_checkLength_0 17 rfl rfl)
theorem dJ15_checkLength_20 : decode cJ15_checkLength 20 = .ok (.ldc_w 337, 3) := dk_19 1 81 (dk_at dksJ15_checkLength_0 20 rfl rfl)
theorem dJ15_checkLength_23 : decode cJ15_checkLength 23 = .ok (.invokevirtual 50, 3) := dk_182 0 50 (dk_at dksJ15_checkLength_1 0 rfl rfl)
theorem dJ15_checkLength_26 : decode cJ15_checkLength 26 = .ok (.iload_n 1, 1) := dk_27 (dk_at dksJ15_checkLength_1 3 rfl rfl)
theorem dJ15_checkLength_27 : decode cJ15_checkLength 27 = .ok (.invokevirtual 54, 3) := dk_182 0 54 (dk_at dksJ15_checkLength_1 4 rfl rfl)
theorem dJ15_checkLength_30 : decode cJ15_checkLength 30 = .ok (.invokevirtual 61, 3) := dk_182 0 61 (dk_at dksJ15_checkLength_1 7 rfl rfl)
theorem dJ15_checkLength_33 : decode cJ15_checkLength 33 = .ok (.invokespecial 65, 3) := dk_183 0 65 (dk_at dksJ15_checkLength_1 10 rfl rfl)
theorem dJ15_checkLength_36 : decode cJ15_checkLength 36 = .ok (.athrow, 1) := dk_191 (dk_at dksJ15_checkLength_1 13 rfl rfl)
theorem dJ15_checkLength_37 : decode cJ15_checkLength 37 = .ok (.return_, 1) := dk_177 (dk_at dksJ15_checkLength_1 14 rfl rfl)
/-! java/util/Arrays.checkLength(II)V -/
abbrev M_J15_checkLength (z0 n0 : Nat) (s' : gS) : gM := (RJ15, cJ15_checkLength, 2, none, "checkLength", [], 1, z0, n0, s'.2.1, s'.2.2)
abbrev W_J15_checkLength (E : gE) (z0 n0 : Nat) (r : Unit) (s' : gS) (pc : Nat) (L : List (Nat × gV)) (st : List gV) (s : gS) : Prop := gW E (M_J15_checkLength z0 n0 s') (gQm E (M_J15_checkLength z0 n0 s') (.inl none) s') pc L st s
noncomputable def f_J15_checkLength_0 (κ : gK) (F : Nat)  (l0 : Int32) (l1 : Int32) (s : gS) : Option (Unit × gS) :=
  if l0 ≤ l1 then
    some ((), s)
  else
    none
set_option maxHeartbeats 4000000 in
theorem w_J15_checkLength_0 {E : gE} {F z0 n0 : Nat} {r : Unit} {s' : gS}   : ∀ (l0 : Int32) (l1 : Int32)  (s : gS), f_J15_checkLength_0 (gk E) F  l0 l1 s = some (r, s') → W_J15_checkLength E z0 n0 r s' 0 [(0, vI l0), (1, vI l1)] [] s := by
  intro l0 l1 s hB
  unfold f_J15_checkLength_0 at hB
  refine gw_iload_n 1 rfl dJ15_checkLength_0 ?_
  refine gw_iload_n 0 rfl dJ15_checkLength_1 ?_
  refine gw_icmp_ge (tgt := 37) dJ15_checkLength_2 (by decide) (fun hcnd => ?_) (fun hcnd => ?_)
  · rw [if_pos hcnd] at hB
    obtain ⟨rfl, rfl⟩ := Prod.mk.inj (Option.some.inj hB)
    exact gw_vret rfl rfl rfl dJ15_checkLength_37
  · rw [if_neg hcnd] at hB
    cases hB
noncomputable def f_J15_checkLength (κ : gK) (F : Nat) (a1 : Int32) (a2 : Int32) (s : gS) : Option (Unit × gS) := f_J15_checkLength_0 κ F a1 a2 s
theorem m_J15_checkLength {E : gE} {F : Nat} (a1 : Int32) (a2 : Int32) (s : gS) (r : Unit) (s' : gS) (h : f_J15_checkLength (gk E) F a1 a2 s = some (r, s')) : gCT E 1 yJ15_checkLength (ws_ yJ15_checkLength cJ15_checkLength 2 none) [vI a1, vI a2] s (.inl none) s' := by
  refine gCT_of2 (fun h => absurd h (by decide)) (plainFor_of_name (by decide)) (Nat.le_of_ble_eq_true rfl) ?_
  exact gw_sub [0, 1] rfl (w_J15_checkLength_0 _ _ _ h)
def dkwJ15_copyOfRangeByte_1 : List UInt8 := [184, 1, 48, 184, 0, 150, 25, 4, 176]
abbrev dktJ15_copyOfRangeByte_1 : List UInt8 := dkwJ15_copyOfRangeByte_1 ++ []
def dkwJ15_copyOfRangeByte_0 : List UInt8 := [27, 28, 184, 1, 87, 28, 27, 100, 62, 29, 188, 8, 58, 4, 42, 27, 25, 4, 3, 42, 190, 27, 100, 29]
abbrev dktJ15_copyOfRangeByte_0 : List UInt8 := dkwJ15_copyOfRangeByte_0 ++ dktJ15_copyOfRangeByte_1
theorem dksJ15_copyOfRangeByte_0 : cJ15_copyOfRangeByte.data.toList.drop 0 = dktJ15_copyOfRangeByte_0 := by decide +kernel
theorem dksJ15_copyOfRangeByte_1 : cJ15_copyOfRangeByte.data.toList.drop 24 = dktJ15_copyOfRangeByte_1 := dk_seg dksJ15_copyOfRangeByte_0 24 rfl rfl
theorem dJ15_copyOfRangeByte_0 : decode cJ15_copyOfRangeByte 0 = .ok (.iload_n 1, 1) := dk_27 (dk_at dksJ15_copyOfRangeByte_0 0 rfl rfl)
theorem dJ15_copyOfRangeByte_1 : decode cJ15_copyOfRangeByte 1 = .ok (.iload_n 2, 1) := dk_28 (dk_at dksJ15_copyOfRangeByte_0 1 rfl rfl)
theorem dJ15_copyOfRangeByte_2 : decode cJ15_copyOfRangeByte 2 = .ok (.invokestatic 343, 3) := dk_184 1 87 (dk_at dksJ15_copyOfRangeByte_0 2 rfl rfl)
theorem dJ15_copyOfRangeByte_5 : decode cJ15_copyOfRangeByte 5 = .ok (.iload_n 2, 1) := dk_28 (dk_at dksJ15_copyOfRangeByte_0 5 rfl rfl)
theorem dJ15_copyOfRangeByte_6 : decode cJ15_copyOfRangeByte 6 = .ok (.iload_n 1, 1) := dk_27 (dk_at dksJ15_copyOfRangeByte_0 6 rfl rfl)
theorem dJ15_copyOfRangeByte_7 : decode cJ15_copyOfRangeByte 7 = .ok (.isub, 1) := dk_100 (dk_at dksJ15_copyOfRangeByte_0 7 rfl rfl)
theorem dJ15_copyOfRangeByte_8 : decode cJ15_copyOfRangeByte 8 = .ok (.istore_n 3, 1) := dk_62 (dk_at dksJ15_copyOfRangeByte_0 8 rfl rfl)
theorem dJ15_copyOfRangeByte_9 : decode cJ15_copyOfRangeByte 9 = .ok (.iload_n 3, 1) := dk_29 (dk_at dksJ15_copyOfRangeByte_0 9 rfl rfl)
theorem dJ15_copyOfRangeByte_10 : decode cJ15_copyOfRangeByte 10 = .ok (.newarray .byte, 2) := dk_188_8 (dk_at dksJ15_copyOfRangeByte_0 10 rfl rfl)
theorem dJ15_copyOfRangeByte_12 : decode cJ15_copyOfRangeByte 12 = .ok (.astore 4, 2) := dk_58 4 (dk_at dksJ15_copyOfRangeByte_0 12 rfl rfl)
theorem dJ15_copyOfRangeByte_14 : decode cJ15_copyOfRangeByte 14 = .ok (.aload_n 0, 1) := dk_42 (dk_at dksJ15_copyOfRangeByte_0 14 rfl rfl)
theorem dJ15_copyOfRangeByte_15 : decode cJ15_copyOfRangeByte 15 = .ok (.iload_n 1, 1) := dk_27 (dk_at dksJ15_copyOfRangeByte_0 15 rfl rfl)
theorem dJ15_copyOfRangeByte_16 : decode cJ15_copyOfRangeByte 16 = .ok (.aload 4, 2) := dk_25 4 (dk_at dksJ15_copyOfRangeByte_0 16 rfl rfl)
theorem dJ15_copyOfRangeByte_18 : decode cJ15_copyOfRangeByte 18 = .ok (.iconst 0, 1) := dk_3 (dk_at dksJ15_copyOfRangeByte_0 18 rfl rfl)
theorem dJ15_copyOfRangeByte_19 : decode cJ15_copyOfRangeByte 19 = .ok (.aload_n 0, 1) := dk_42 (dk_at dksJ15_copyOfRangeByte_0 19 rfl rfl)
theorem dJ15_copyOfRangeByte_20 : decode cJ15_copyOfRangeByte 20 = .ok (.arraylength, 1) := dk_190 (dk_at dksJ15_copyOfRangeByte_0 20 rfl rfl)
theorem dJ15_copyOfRangeByte_21 : decode cJ15_copyOfRangeByte 21 = .ok (.iload_n 1, 1) := dk_27 (dk_at dksJ15_copyOfRangeByte_0 21 rfl rfl)
theorem dJ15_copyOfRangeByte_22 : decode cJ15_copyOfRangeByte 22 = .ok (.isub, 1) := dk_100 (dk_at dksJ15_copyOfRangeByte_0 22 rfl rfl)
theorem dJ15_copyOfRangeByte_23 : decode cJ15_copyOfRangeByte 23 = .ok (.iload_n 3, 1) := dk_29 (dk_at dksJ15_copyOfRangeByte_0 23 rfl rfl)
theorem dJ15_copyOfRangeByte_24 : decode cJ15_copyOfRangeByte 24 = .ok (.invokestatic 304, 3) := dk_184 1 48 (dk_at dksJ15_copyOfRangeByte_1 0 rfl rfl)
theorem dJ15_copyOfRangeByte_27 : decode cJ15_copyOfRangeByte 27 = .ok (.invokestatic 150, 3) := dk_184 0 150 (dk_at dksJ15_copyOfRangeByte_1 3 rfl rfl)
theorem dJ15_copyOfRangeByte_30 : decode cJ15_copyOfRangeByte 30 = .ok (.aload 4, 2) := dk_25 4 (dk_at dksJ15_copyOfRangeByte_1 6 rfl rfl)
theorem dJ15_copyOfRangeByte_32 : decode cJ15_copyOfRangeByte 32 = .ok (.areturn, 1) := dk_176 (dk_at dksJ15_copyOfRangeByte_1 8 rfl rfl)
/-! java/util/Arrays.copyOfRangeByte([BII)[B -/
abbrev M_J15_copyOfRangeByte (z0 n0 : Nat) (s' : gS) : gM := (RJ15, cJ15_copyOfRangeByte, 5, (some (FieldType.array FieldType.byte)), "copyOfRangeByte", [], 2, z0, n0, s'.2.1, s'.2.2)
abbrev W_J15_copyOfRangeByte (E : gE) (z0 n0 : Nat) (r : (Option Nat)) (s' : gS) (pc : Nat) (L : List (Nat × gV)) (st : List gV) (s : gS) : Prop := gW E (M_J15_copyOfRangeByte z0 n0 s') (gQm E (M_J15_copyOfRangeByte z0 n0 s') (.inl (some (vR r))) s') pc L st s
noncomputable def f_J15_copyOfRangeByte_0 (κ : gK) (F : Nat)  (l0 : Option Nat) (l1 : Int32) (l2 : Int32) (s : gS) : Option ((Option Nat) × gS) :=
  gB2 (f_J15_checkLength κ F l1 l2 s) fun v2 s1 =>
  gB2 (gna s1 2 (l2 - l1)) fun v3 s4 =>
  gB1 (gal s4 l0) fun v5 =>
  gB1 (gcpI κ s4 2 l0 l1 v3 (0 : Int32) (if (l2 - l1) < (v5 - l1) then (l2 - l1) else (v5 - l1))) fun s6 =>
  some (v3, s6)
set_option maxHeartbeats 4000000 in
theorem w_J15_copyOfRangeByte_0 {E : gE} {F z0 n0 : Nat} {r : (Option Nat)} {s' : gS}   : ∀ (l0 : Option Nat) (l1 : Int32) (l2 : Int32)  (s : gS), f_J15_copyOfRangeByte_0 (gk E) F  l0 l1 l2 s = some (r, s') → W_J15_copyOfRangeByte E z0 n0 r s' 0 [(0, vR l0), (1, vI l1), (2, vI l2)] [] s := by
  intro l0 l1 l2 s hB
  unfold f_J15_copyOfRangeByte_0 at hB
  refine gw_iload_n 1 rfl dJ15_copyOfRangeByte_0 ?_
  refine gw_iload_n 2 rfl dJ15_copyOfRangeByte_1 ?_
  obtain ⟨v2, s1, hv2, hB⟩ := gB2_some hB
  refine gw_callS (y := yJ15_checkLength) (lw_S q685 q686 q130 q687) hdS_J15_checkLength (As := [vI l1, vI l2]) (rest := []) (m_J15_checkLength _ _ _ _ _ hv2) (Nat.le_of_ble_eq_true rfl) (Nat.le_of_ble_eq_true rfl) rfl (Nat.le_of_ble_eq_true rfl) dJ15_copyOfRangeByte_2 (gCont_v ?_)
  refine gw_iload_n 2 rfl dJ15_copyOfRangeByte_5 ?_
  refine gw_iload_n 1 rfl dJ15_copyOfRangeByte_6 ?_
  refine gw_isub dJ15_copyOfRangeByte_7 ?_
  refine gw_istore_n (L' := [(3, vI (l2 - l1)), (0, vR l0), (1, vI l1), (2, vI l2)]) (Nat.le_of_ble_eq_true rfl) rfl dJ15_copyOfRangeByte_8 ?_
  refine gw_iload_n 0 rfl dJ15_copyOfRangeByte_9 ?_
  obtain ⟨v3, s4, hv3, hB⟩ := gB2_some hB
  refine gw_newarr (atype := .byte) (t := 2) rfl rfl rfl (by decide) rfl q515 hv3 dJ15_copyOfRangeByte_10 ?_
  refine gw_astore (L' := [(4, vR v3), (3, vI (l2 - l1)), (0, vR l0), (1, vI l1), (2, vI l2)]) (Nat.le_of_ble_eq_true rfl) rfl dJ15_copyOfRangeByte_12 ?_
  refine gw_aload_n 2 rfl dJ15_copyOfRangeByte_14 ?_
  refine gw_iload_n 3 rfl dJ15_copyOfRangeByte_15 ?_
  refine gw_aload 0 rfl dJ15_copyOfRangeByte_16 ?_
  refine gw_iconst (v := (0 : Int32)) (by decide) dJ15_copyOfRangeByte_18 ?_
  refine gw_aload_n 2 rfl dJ15_copyOfRangeByte_19 ?_
  obtain ⟨v5, hv5, hB⟩ := gB1_some hB
  refine gw_alen hv5 dJ15_copyOfRangeByte_20 ?_
  refine gw_iload_n 3 rfl dJ15_copyOfRangeByte_21 ?_
  refine gw_isub dJ15_copyOfRangeByte_22 ?_
  refine gw_iload_n 1 rfl dJ15_copyOfRangeByte_23 ?_
  refine gw_mmin q557 q558 q129 q559 (Nat.le_of_ble_eq_true rfl) (Nat.le_of_ble_eq_true rfl) dJ15_copyOfRangeByte_24 ?_
  obtain ⟨s6, hs6, hB⟩ := gB1_some hB
  refine gw_copyI (t := 2) rfl rfl q560 q562 q561 q118 (Nat.le_of_ble_eq_true rfl) (Nat.le_of_ble_eq_true rfl) hs6 dJ15_copyOfRangeByte_27 ?_
  refine gw_aload 0 rfl dJ15_copyOfRangeByte_30 ?_
  obtain ⟨rfl, rfl⟩ := Prod.mk.inj (Option.some.inj hB)
  exact gw_aret rfl (Or.inr ⟨_, rfl⟩) rfl rfl dJ15_copyOfRangeByte_32
noncomputable def f_J15_copyOfRangeByte (κ : gK) (F : Nat) (a1 : Option Nat) (a2 : Int32) (a3 : Int32) (s : gS) : Option ((Option Nat) × gS) := f_J15_copyOfRangeByte_0 κ F a1 a2 a3 s
theorem m_J15_copyOfRangeByte {E : gE} {F : Nat} (a1 : Option Nat) (a2 : Int32) (a3 : Int32) (s : gS) (r : (Option Nat)) (s' : gS) (h : f_J15_copyOfRangeByte (gk E) F a1 a2 a3 s = some (r, s')) : gCT E 2 yJ15_copyOfRangeByte (ws_ yJ15_copyOfRangeByte cJ15_copyOfRangeByte 5 (some (FieldType.array FieldType.byte))) [vR a1, vI a2, vI a3] s (.inl (some (vR r))) s' := by
  refine gCT_of2 (fun h => absurd h (by decide)) (plainFor_of_name (by decide)) (Nat.le_of_ble_eq_true rfl) ?_
  exact gw_sub [0, 1, 2] rfl (w_J15_copyOfRangeByte_0 _ _ _ _ h)
def dkwJ15_copyOfRange_1 : List UInt8 := [176]
abbrev dktJ15_copyOfRange_1 : List UInt8 := dkwJ15_copyOfRange_1 ++ []
def dkwJ15_copyOfRange_0 : List UInt8 := [27, 154, 0, 9, 28, 42, 190, 159, 0, 10, 42, 27, 28, 184, 1, 83, 176, 42, 182, 1, 54, 192, 1, 55]
abbrev dktJ15_copyOfRange_0 : List UInt8 := dkwJ15_copyOfRange_0 ++ dktJ15_copyOfRange_1
theorem dksJ15_copyOfRange_0 : cJ15_copyOfRange.data.toList.drop 0 = dktJ15_copyOfRange_0 := by decide +kernel
theorem dksJ15_copyOfRange_1 : cJ15_copyOfRange.data.toList.drop 24 = dktJ15_copyOfRange_1 := dk_seg dksJ15_copyOfRange_0 24 rfl rfl
theorem dJ15_copyOfRange_0 : decode cJ15_copyOfRange 0 = .ok (.iload_n 1, 1) := dk_27 (dk_at dksJ15_copyOfRange_0 0 rfl rfl)
theorem dJ15_copyOfRange_1 : decode cJ15_copyOfRange 1 = .ok (.ifCond .ne 9, 3) := dk_154 0 9 (dk_at dksJ15_copyOfRange_0 1 rfl rfl)
theorem dJ15_copyOfRange_4 : decode cJ15_copyOfRange 4 = .ok (.iload_n 2, 1) := dk_28 (dk_at dksJ15_copyOfRange_0 4 rfl rfl)
theorem dJ15_copyOfRange_5 : decode cJ15_copyOfRange 5 = .ok (.aload_n 0, 1) := dk_42 (dk_at dksJ15_copyOfRange_0 5 rfl rfl)
theorem dJ15_copyOfRange_6 : decode cJ15_copyOfRange 6 = .ok (.arraylength, 1) := dk_190 (dk_at dksJ15_copyOfRange_0 6 rfl rfl)
theorem dJ15_copyOfRange_7 : decode cJ15_copyOfRange 7 = .ok (.if_icmp .eq 10, 3) := dk_159 0 10 (dk_at dksJ15_copyOfRange_0 7 rfl rfl)
theorem dJ15_copyOfRange_10 : decode cJ15_copyOfRange 10 = .ok (.aload_n 0, 1) := dk_42 (dk_at dksJ15_copyOfRange_0 10 rfl rfl)
theorem dJ15_copyOfRange_11 : decode cJ15_copyOfRange 11 = .ok (.iload_n 1, 1) := dk_27 (dk_at dksJ15_copyOfRange_0 11 rfl rfl)
theorem dJ15_copyOfRange_12 : decode cJ15_copyOfRange 12 = .ok (.iload_n 2, 1) := dk_28 (dk_at dksJ15_copyOfRange_0 12 rfl rfl)
theorem dJ15_copyOfRange_13 : decode cJ15_copyOfRange 13 = .ok (.invokestatic 339, 3) := dk_184 1 83 (dk_at dksJ15_copyOfRange_0 13 rfl rfl)
theorem dJ15_copyOfRange_16 : decode cJ15_copyOfRange 16 = .ok (.areturn, 1) := dk_176 (dk_at dksJ15_copyOfRange_0 16 rfl rfl)
theorem dJ15_copyOfRange_17 : decode cJ15_copyOfRange 17 = .ok (.aload_n 0, 1) := dk_42 (dk_at dksJ15_copyOfRange_0 17 rfl rfl)
theorem dJ15_copyOfRange_18 : decode cJ15_copyOfRange 18 = .ok (.invokevirtual 310, 3) := dk_182 1 54 (dk_at dksJ15_copyOfRange_0 18 rfl rfl)
theorem dJ15_copyOfRange_21 : decode cJ15_copyOfRange 21 = .ok (.checkcast 311, 3) := dk_192 1 55 (dk_at dksJ15_copyOfRange_0 21 rfl rfl)
theorem dJ15_copyOfRange_24 : decode cJ15_copyOfRange 24 = .ok (.areturn, 1) := dk_176 (dk_at dksJ15_copyOfRange_1 0 rfl rfl)
/-! java/util/Arrays.copyOfRange([BII)[B -/
abbrev M_J15_copyOfRange (z0 n0 : Nat) (s' : gS) : gM := (RJ15, cJ15_copyOfRange, 3, (some (FieldType.array FieldType.byte)), "copyOfRange", [], 3, z0, n0, s'.2.1, s'.2.2)
abbrev W_J15_copyOfRange (E : gE) (z0 n0 : Nat) (r : (Option Nat)) (s' : gS) (pc : Nat) (L : List (Nat × gV)) (st : List gV) (s : gS) : Prop := gW E (M_J15_copyOfRange z0 n0 s') (gQm E (M_J15_copyOfRange z0 n0 s') (.inl (some (vR r))) s') pc L st s
noncomputable def f_J15_copyOfRange_10 (κ : gK) (F : Nat)  (l0 : Option Nat) (l1 : Int32) (l2 : Int32) (s : gS) : Option ((Option Nat) × gS) :=
  gB2 (f_J15_copyOfRangeByte κ F l0 l1 l2 s) fun v2 s1 =>
  some (v2, s1)
set_option maxHeartbeats 4000000 in
theorem w_J15_copyOfRange_10 {E : gE} {F z0 n0 : Nat} {r : (Option Nat)} {s' : gS}   : ∀ (l0 : Option Nat) (l1 : Int32) (l2 : Int32)  (s : gS), f_J15_copyOfRange_10 (gk E) F  l0 l1 l2 s = some (r, s') → W_J15_copyOfRange E z0 n0 r s' 10 [(0, vR l0), (1, vI l1), (2, vI l2)] [] s := by
  intro l0 l1 l2 s hB
  unfold f_J15_copyOfRange_10 at hB
  refine gw_aload_n 0 rfl dJ15_copyOfRange_10 ?_
  refine gw_iload_n 1 rfl dJ15_copyOfRange_11 ?_
  refine gw_iload_n 2 rfl dJ15_copyOfRange_12 ?_
  obtain ⟨v2, s1, hv2, hB⟩ := gB2_some hB
  refine gw_callS (y := yJ15_copyOfRangeByte) (lw_S q682 q683 q130 q684) hdS_J15_copyOfRangeByte (As := [vR l0, vI l1, vI l2]) (rest := []) (m_J15_copyOfRangeByte _ _ _ _ _ _ hv2) (Nat.le_of_ble_eq_true rfl) (Nat.le_of_ble_eq_true rfl) rfl (Nat.le_of_ble_eq_true rfl) dJ15_copyOfRange_13 (gCont_i ?_)
  obtain ⟨rfl, rfl⟩ := Prod.mk.inj (Option.some.inj hB)
  exact gw_aret rfl (Or.inr ⟨_, rfl⟩) rfl rfl dJ15_copyOfRange_16
noncomputable def f_J15_copyOfRange_0 (κ : gK) (F : Nat)  (l0 : Option Nat) (l1 : Int32) (l2 : Int32) (s : gS) : Option ((Option Nat) × gS) :=
  if l1 = 0 then
    gB1 (gal s l0) fun v1 =>
    if l2 = v1 then
      gB2 (gcln κ s 2 l0) fun v2 s3 =>
      gB1 (gct s3 v2 2) fun _ =>
      some (v2, s3)
    else
      f_J15_copyOfRange_10 κ F  l0 l1 l2 s
  else
    f_J15_copyOfRange_10 κ F  l0 l1 l2 s
set_option maxHeartbeats 4000000 in
theorem w_J15_copyOfRange_0 {E : gE} {F z0 n0 : Nat} {r : (Option Nat)} {s' : gS}   : ∀ (l0 : Option Nat) (l1 : Int32) (l2 : Int32)  (s : gS), f_J15_copyOfRange_0 (gk E) F  l0 l1 l2 s = some (r, s') → W_J15_copyOfRange E z0 n0 r s' 0 [(0, vR l0), (1, vI l1), (2, vI l2)] [] s := by
  intro l0 l1 l2 s hB
  unfold f_J15_copyOfRange_0 at hB
  refine gw_iload_n 1 rfl dJ15_copyOfRange_0 ?_
  refine gw_if_ne (tgt := 10) dJ15_copyOfRange_1 (by decide) (fun hcnd => ?_) (fun hcnd => ?_)
  · rw [if_neg hcnd] at hB
    exact gw_sub [0, 1, 2] rfl (w_J15_copyOfRange_10  _ _ _ _ hB)
  · rw [if_pos hcnd] at hB
    refine gw_iload_n 2 rfl dJ15_copyOfRange_4 ?_
    refine gw_aload_n 0 rfl dJ15_copyOfRange_5 ?_
    obtain ⟨v1, hv1, hB⟩ := gB1_some hB
    refine gw_alen hv1 dJ15_copyOfRange_6 ?_
    refine gw_icmp_eq (tgt := 17) dJ15_copyOfRange_7 (by decide) (fun hcnd => ?_) (fun hcnd => ?_)
    · rw [if_pos hcnd] at hB
      refine gw_aload_n 0 rfl dJ15_copyOfRange_17 ?_
      obtain ⟨v2, s3, hv2, hB⟩ := gB2_some hB
      refine gw_clone (t := 2) (ad := "[B") rfl rfl (by decide) q550 q551 q552 q553 q554 q555 (Nat.le_of_ble_eq_true rfl) (Nat.le_of_ble_eq_true rfl) hv2 dJ15_copyOfRange_18 ?_
      obtain ⟨u0, hu4, hB⟩ := gB1_some hB
      refine gw_castA (t := 2) rfl (by decide) hu4 q556 dJ15_copyOfRange_21 ?_
      obtain ⟨rfl, rfl⟩ := Prod.mk.inj (Option.some.inj hB)
      exact gw_aret rfl (Or.inr ⟨_, rfl⟩) rfl rfl dJ15_copyOfRange_24
    · rw [if_neg hcnd] at hB
      exact gw_sub [0, 1, 2] rfl (w_J15_copyOfRange_10  _ _ _ _ hB)
noncomputable def f_J15_copyOfRange (κ : gK) (F : Nat) (a1 : Option Nat) (a2 : Int32) (a3 : Int32) (s : gS) : Option ((Option Nat) × gS) := f_J15_copyOfRange_0 κ F a1 a2 a3 s
theorem m_J15_copyOfRange {E : gE} {F : Nat} (a1 : Option Nat) (a2 : Int32) (a3 : Int32) (s : gS) (r : (Option Nat)) (s' : gS) (h : f_J15_copyOfRange (gk E) F a1 a2 a3 s = some (r, s')) : gCT E 3 yJ15_copyOfRange (ws_ yJ15_copyOfRange cJ15_copyOfRange 3 (some (FieldType.array FieldType.byte))) [vR a1, vI a2, vI a3] s (.inl (some (vR r))) s' := by
  refine gCT_of2 (fun h => absurd h (by decide)) (plainFor_of_name (by decide)) (Nat.le_of_ble_eq_true rfl) ?_
  exact gw_sub [0, 1, 2] rfl (w_J15_copyOfRange_0 _ _ _ _ h)
def dkwJ4_init_2_4 : List UInt8 := [181, 0, 9, 177]
abbrev dktJ4_init_2_4 : List UInt8 := dkwJ4_init_2_4 ++ []
def dkwJ4_init_2_3 : List UInt8 := [184, 0, 47, 181, 0, 15, 177, 42, 4, 181, 0, 15, 42, 45, 3, 21, 4, 4, 120, 184, 0, 54]
abbrev dktJ4_init_2_3 : List UInt8 := dkwJ4_init_2_3 ++ dktJ4_init_2_4
def dkwJ4_init_2_2 : List UInt8 := [180, 4, 24, 153, 0, 28, 42, 45, 3, 21, 4, 184, 4, 27, 181, 0, 9, 42, 42, 180, 0, 9, 21, 4]
abbrev dktJ4_init_2_2 : List UInt8 := dkwJ4_init_2_2 ++ dktJ4_init_2_3
def dkwJ4_init_2_1 : List UInt8 := [181, 0, 15, 42, 45, 3, 21, 4, 184, 0, 54, 181, 0, 9, 167, 0, 59, 178, 0, 38, 153, 0, 35, 43]
abbrev dktJ4_init_2_1 : List UInt8 := dkwJ4_init_2_1 ++ dktJ4_init_2_2
def dkwJ4_init_2_0 : List UInt8 := [42, 183, 0, 1, 43, 182, 2, 40, 78, 43, 182, 2, 37, 54, 4, 43, 182, 4, 23, 153, 0, 22, 42, 3]
abbrev dktJ4_init_2_0 : List UInt8 := dkwJ4_init_2_0 ++ dktJ4_init_2_1
theorem dksJ4_init_2_0 : cJ4_init_2.data.toList.drop 0 = dktJ4_init_2_0 := by decide +kernel
theorem dksJ4_init_2_1 : cJ4_init_2.data.toList.drop 24 = dktJ4_init_2_1 := dk_seg dksJ4_init_2_0 24 rfl rfl
theorem dksJ4_init_2_2 : cJ4_init_2.data.toList.drop 48 = dktJ4_init_2_2 := dk_seg dksJ4_init_2_1 24 rfl rfl
theorem dksJ4_init_2_3 : cJ4_init_2.data.toList.drop 72 = dktJ4_init_2_3 := dk_seg dksJ4_init_2_2 24 rfl rfl
theorem dksJ4_init_2_4 : cJ4_init_2.data.toList.drop 94 = dktJ4_init_2_4 := dk_seg dksJ4_init_2_3 22 rfl rfl
theorem dJ4_init_2_0 : decode cJ4_init_2 0 = .ok (.aload_n 0, 1) := dk_42 (dk_at dksJ4_init_2_0 0 rfl rfl)
theorem dJ4_init_2_1 : decode cJ4_init_2 1 = .ok (.invokespecial 1, 3) := dk_183 0 1 (dk_at dksJ4_init_2_0 1 rfl rfl)
theorem dJ4_init_2_4 : decode cJ4_init_2 4 = .ok (.aload_n 1, 1) := dk_43 (dk_at dksJ4_init_2_0 4 rfl rfl)
theorem dJ4_init_2_5 : decode cJ4_init_2 5 = .ok (.invokevirtual 552, 3) := dk_182 2 40 (dk_at dksJ4_init_2_0 5 rfl rfl)
theorem dJ4_init_2_8 : decode cJ4_init_2 8 = .ok (.astore_n 3, 1) := dk_78 (dk_at dksJ4_init_2_0 8 rfl rfl)
theorem dJ4_init_2_9 : decode cJ4_init_2 9 = .ok (.aload_n 1, 1) := dk_43 (dk_at dksJ4_init_2_0 9 rfl rfl)
theorem dJ4_init_2_10 : decode cJ4_init_2 10 = .ok (.invokevirtual 549, 3) := dk_182 2 37 (dk_at dksJ4_init_2_0 10 rfl rfl)
theorem dJ4_init_2_13 : decode cJ4_init_2 13 = .ok (.istore 4, 2) := dk_54 4 (dk_at dksJ4_init_2_0 13 rfl rfl)
theorem dJ4_init_2_15 : decode cJ4_init_2 15 = .ok (.aload_n 1, 1) := dk_43 (dk_at dksJ4_init_2_0 15 rfl rfl)
theorem dJ4_init_2_16 : decode cJ4_init_2 16 = .ok (.invokevirtual 1047, 3) := dk_182 4 23 (dk_at dksJ4_init_2_0 16 rfl rfl)
theorem dJ4_init_2_19 : decode cJ4_init_2 19 = .ok (.ifCond .eq 22, 3) := dk_153 0 22 (dk_at dksJ4_init_2_0 19 rfl rfl)
theorem dJ4_init_2_22 : decode cJ4_init_2 22 = .ok (.aload_n 0, 1) := dk_42 (dk_at dksJ4_init_2_0 22 rfl rfl)
theorem dJ4_init_2_23 : decode cJ4_init_2 23 = .ok (.iconst 0, 1) := dk_3 (dk_at dksJ4_init_2_0 23 rfl rfl)
theorem dJ4_init_2_24 : decode cJ4_init_2 24 = .ok (.putfield 15, 3) := dk_181 0 15 (dk_at dksJ4_init_2_1 0 rfl rfl)
theorem dJ4_init_2_27 : decode cJ4_init_2 27 = .ok (.aload_n 0, 1) := dk_42 (dk_at dksJ4_init_2_1 3 rfl rfl)
theorem dJ4_init_2_28 : decode cJ4_init_2 28 = .ok (.aload_n 3, 1) := dk_45 (dk_at dksJ4_init_2_1 4 rfl rfl)
theorem dJ4_init_2_29 : decode cJ4_init_2 29 = .ok (.iconst 0, 1) := dk_3 (dk_at dksJ4_init_2_1 5 rfl rfl)
theorem dJ4_init_2_30 : decode cJ4_init_2 30 = .ok (.iload 4, 2) := dk_21 4 (dk_at dksJ4_init_2_1 6 rfl rfl)
theorem dJ4_init_2_32 : decode cJ4_init_2 32 = .ok (.invokestatic 54, 3) := dk_184 0 54 (dk_at dksJ4_init_2_1 8 rfl rfl)
theorem dJ4_init_2_35 : decode cJ4_init_2 35 = .ok (.putfield 9, 3) := dk_181 0 9 (dk_at dksJ4_init_2_1 11 rfl rfl)
theorem dJ4_init_2_38 : decode cJ4_init_2 38 = .ok (.goto 59, 3) := dk_167 0 59 (dk_at dksJ4_init_2_1 14 rfl rfl)
theorem dJ4_init_2_41 : decode cJ4_init_2 41 = .ok (.getstatic 38, 3) := dk_178 0 38 (dk_at dksJ4_init_2_1 17 rfl rfl)
theorem dJ4_init_2_44 : decode cJ4_init_2 44 = .ok (.ifCond .eq 35, 3) := dk_153 0 35 (dk_at dksJ4_init_2_1 20 rfl rfl)
theorem dJ4_init_2_47 : decode cJ4_init_2 47 = .ok (.aload_n 1, 1) := dk_43 (dk_at dksJ4_init_2_1 23 rfl rfl)
theorem dJ4_init_2_48 : decode cJ4_init_2 48 = .ok (.getfield 1048, 3) := dk_180 4 24 (dk_at dksJ4_init_2_2 0 rfl rfl)
theorem dJ4_init_2_51 : decode cJ4_init_2 51 = .ok (.ifCond .eq 28, 3) := dk_153 0 28 (dk_at dksJ4_init_2_2 3 rfl rfl)
theorem dJ4_init_2_54 : decode cJ4_init_2 54 = .ok (.aload_n 0, 1) := dk_42 (dk_at dksJ4_init_2_2 6 rfl rfl)
theorem dJ4_init_2_55 : decode cJ4_init_2 55 = .ok (.aload_n 3, 1) := dk_45 (dk_at dksJ4_init_2_2 7 rfl rfl)
theorem dJ4_init_2_56 : decode cJ4_init_2 56 = .ok (.iconst 0, 1) := dk_3 (dk_at dksJ4_init_2_2 8 rfl rfl)
theorem dJ4_init_2_57 : decode cJ4_init_2 57 = .ok (.iload 4, 2) := dk_21 4 (dk_at dksJ4_init_2_2 9 rfl rfl)
theorem dJ4_init_2_59 : decode cJ4_init_2 59 = .ok (.invokestatic 1051, 3) := dk_184 4 27 (dk_at dksJ4_init_2_2 11 rfl rfl)
theorem dJ4_init_2_62 : decode cJ4_init_2 62 = .ok (.putfield 9, 3) := dk_181 0 9 (dk_at dksJ4_init_2_2 14 rfl rfl)
theorem dJ4_init_2_65 : decode cJ4_init_2 65 = .ok (.aload_n 0, 1) := dk_42 (dk_at dksJ4_init_2_2 17 rfl rfl)
theorem dJ4_init_2_66 : decode cJ4_init_2 66 = .ok (.aload_n 0, 1) := dk_42 (dk_at dksJ4_init_2_2 18 rfl rfl)
theorem dJ4_init_2_67 : decode cJ4_init_2 67 = .ok (.getfield 9, 3) := dk_180 0 9 (dk_at dksJ4_init_2_2 19 rfl rfl)
theorem dJ4_init_2_70 : decode cJ4_init_2 70 = .ok (.iload 4, 2) := dk_21 4 (dk_at dksJ4_init_2_2 22 rfl rfl)
theorem dJ4_init_2_72 : decode cJ4_init_2 72 = .ok (.invokestatic 47, 3) := dk_184 0 47 (dk_at dksJ4_init_2_3 0 rfl rfl)
theorem dJ4_init_2_75 : decode cJ4_init_2 75 = .ok (.putfield 15, 3) := dk_181 0 15 (dk_at dksJ4_init_2_3 3 rfl rfl)
theorem dJ4_init_2_78 : decode cJ4_init_2 78 = .ok (.return_, 1) := dk_177 (dk_at dksJ4_init_2_3 6 rfl rfl)
theorem dJ4_init_2_79 : decode cJ4_init_2 79 = .ok (.aload_n 0, 1) := dk_42 (dk_at dksJ4_init_2_3 7 rfl rfl)
theorem dJ4_init_2_80 : decode cJ4_init_2 80 = .ok (.iconst 1, 1) := dk_4 (dk_at dksJ4_init_2_3 8 rfl rfl)
theorem dJ4_init_2_81 : decode cJ4_init_2 81 = .ok (.putfield 15, 3) := dk_181 0 15 (dk_at dksJ4_init_2_3 9 rfl rfl)
theorem dJ4_init_2_84 : decode cJ4_init_2 84 = .ok (.aload_n 0, 1) := dk_42 (dk_at dksJ4_init_2_3 12 rfl rfl)
theorem dJ4_init_2_85 : decode cJ4_init_2 85 = .ok (.aload_n 3, 1) := dk_45 (dk_at dksJ4_init_2_3 13 rfl rfl)
theorem dJ4_init_2_86 : decode cJ4_init_2 86 = .ok (.iconst 0, 1) := dk_3 (dk_at dksJ4_init_2_3 14 rfl rfl)
theorem dJ4_init_2_87 : decode cJ4_init_2 87 = .ok (.iload 4, 2) := dk_21 4 (dk_at dksJ4_init_2_3 15 rfl rfl)
theorem dJ4_init_2_89 : decode cJ4_init_2 89 = .ok (.iconst 1, 1) := dk_4 (dk_at dksJ4_init_2_3 17 rfl rfl)
theorem dJ4_init_2_90 : decode cJ4_init_2 90 = .ok (.ishl, 1) := dk_120 (dk_at dksJ4_init_2_3 18 rfl rfl)
theorem dJ4_init_2_91 : decode cJ4_init_2 91 = .ok (.invokestatic 54, 3) := dk_184 0 54 (dk_at dksJ4_init_2_3 19 rfl rfl)
theorem dJ4_init_2_94 : decode cJ4_init_2 94 = .ok (.putfield 9, 3) := dk_181 0 9 (dk_at dksJ4_init_2_4 0 rfl rfl)
theorem dJ4_init_2_97 : decode cJ4_init_2 97 = .ok (.return_, 1) := dk_177 (dk_at dksJ4_init_2_4 3 rfl rfl)
/-! java/lang/String.<init>(Ljava/lang/AbstractStringBuilder;Ljava/lang/Void;)V -/
abbrev M_J4_init_2 (z0 n0 : Nat) (s' : gS) : gM := (RJ4, cJ4_init_2, 5, none, "<init>", [], 4, z0, n0, s'.2.1, s'.2.2)
abbrev W_J4_init_2 (E : gE) (z0 n0 : Nat) (r : Unit) (s' : gS) (pc : Nat) (L : List (Nat × gV)) (st : List gV) (s : gS) : Prop := gW E (M_J4_init_2 z0 n0 s') (gQm E (M_J4_init_2 z0 n0 s') (.inl none) s') pc L st s
noncomputable def f_J4_init_2_97 (κ : gK) (F : Nat)   (s : gS) : Option (Unit × gS) :=
  some ((), s)
set_option maxHeartbeats 4000000 in
theorem w_J4_init_2_97 {E : gE} {F z0 n0 : Nat} {r : Unit} {s' : gS}   : ∀   (s : gS), f_J4_init_2_97 (gk E) F   s = some (r, s') → W_J4_init_2 E z0 n0 r s' 97 [] [] s := by
  intro  s hB
  unfold f_J4_init_2_97 at hB
  obtain ⟨rfl, rfl⟩ := Prod.mk.inj (Option.some.inj hB)
  exact gw_vret rfl rfl rfl dJ4_init_2_97
noncomputable def f_J4_init_2_79 (κ : gK) (F : Nat)  (l0 : Option Nat) (l3 : Option Nat) (l4 : Int32) (s : gS) : Option (Unit × gS) :=
  gB1 (gok .byte (1 : Int32)) fun _ =>
  gB1 (gpf κ s l0 16 1 (.int (1 : Int32))) fun s2 =>
  gB2 (f_J15_copyOfRange κ F l3 (0 : Int32) (l4 <<< ((1 : Int32) &&& 31)) s2) fun v4 s3 =>
  gB1 (gpf κ s3 l0 16 0 (va_rf v4)) fun s5 =>
  f_J4_init_2_97 κ F  s5
set_option maxHeartbeats 4000000 in
theorem w_J4_init_2_79 {E : gE} {F z0 n0 : Nat} {r : Unit} {s' : gS}   : ∀ (l0 : Option Nat) (l3 : Option Nat) (l4 : Int32)  (s : gS), f_J4_init_2_79 (gk E) F  l0 l3 l4 s = some (r, s') → W_J4_init_2 E z0 n0 r s' 79 [(0, vR l0), (3, vR l3), (4, vI l4)] [] s := by
  intro l0 l3 l4 s hB
  unfold f_J4_init_2_79 at hB
  refine gw_aload_n 0 rfl dJ4_init_2_79 ?_
  refine gw_iconst (v := (1 : Int32)) (by decide) dJ4_init_2_80 ?_
  obtain ⟨u0, hu1, hB⟩ := gB1_some hB
  obtain ⟨s2, hs2, hB⟩ := gB1_some hB
  refine gw_putfF (C := RJ4) (T := TJ4) (N := 4) (k := 1) tyJ4 tyJ4_ok nmJ4 gcl16 (by decide) in_J4 q732 rfl rfl rfl (tyJ4_ok 1 (by decide)) (gok_spec hu1) hs2 dJ4_init_2_81 ?_
  refine gw_aload_n 0 rfl dJ4_init_2_84 ?_
  refine gw_aload_n 1 rfl dJ4_init_2_85 ?_
  refine gw_iconst (v := (0 : Int32)) (by decide) dJ4_init_2_86 ?_
  refine gw_iload 2 rfl dJ4_init_2_87 ?_
  refine gw_iconst (v := (1 : Int32)) (by decide) dJ4_init_2_89 ?_
  refine gw_ishl dJ4_init_2_90 ?_
  obtain ⟨v4, s3, hv4, hB⟩ := gB2_some hB
  refine gw_callS (y := yJ15_copyOfRange) (lw_S q679 q680 q130 q681) hdS_J15_copyOfRange (As := [vR l3, vI (0 : Int32), vI (l4 <<< ((1 : Int32) &&& 31))]) (rest := [vR l0]) (m_J15_copyOfRange _ _ _ _ _ _ hv4) (Nat.le_of_ble_eq_true rfl) (Nat.le_of_ble_eq_true rfl) rfl (Nat.le_of_ble_eq_true rfl) dJ4_init_2_91 (gCont_i ?_)
  obtain ⟨s5, hs5, hB⟩ := gB1_some hB
  refine gw_putfF (C := RJ4) (T := TJ4) (N := 4) (k := 0) tyJ4 tyJ4_ok nmJ4 gcl16 (by decide) in_J4 q731 rfl rfl rfl (tyJ4_ok 0 (by decide)) (gNF_a _ _) hs5 dJ4_init_2_94 ?_
  exact gw_sub [] rfl (w_J4_init_2_97   _ hB)
noncomputable def f_J4_init_2_0 (κ : gK) (F : Nat)  (l0 : Option Nat) (l1 : Option Nat) (s : gS) : Option (Unit × gS) :=
  gB1 (gsm l0) fun _ =>
  gB1 (gck s l1 17) fun _ =>
  gB2 (f_J12_getValue κ F l1  s) fun v3 s2 =>
  gB1 (gck s2 l1 17) fun _ =>
  gB2 (f_J13_length κ F l1  s2) fun v6 s5 =>
  gB1 (gck s5 l1 17) fun _ =>
  gB2 (f_J12_isLatin1 κ F l1  s5) fun v9 s8 =>
  if v9 = 0 then
    if (1 : Int32) = 0 then
      f_J4_init_2_79 κ F  l0 v3 v6 s8
    else
      gB1 (gfI s8 l1 17 2) fun v11 =>
      if v11 = 0 then
        f_J4_init_2_79 κ F  l0 v3 v6 s8
      else
        none
  else
    gB1 (gok .byte (0 : Int32)) fun _ =>
    gB1 (gpf κ s8 l0 16 1 (.int (0 : Int32))) fun s13 =>
    gB2 (f_J15_copyOfRange κ F v3 (0 : Int32) v6 s13) fun v15 s14 =>
    gB1 (gpf κ s14 l0 16 0 (va_rf v15)) fun s16 =>
    f_J4_init_2_97 κ F  s16
set_option maxHeartbeats 4000000 in
theorem w_J4_init_2_0 {E : gE} {F z0 n0 : Nat} {r : Unit} {s' : gS}   : ∀ (l0 : Option Nat) (l1 : Option Nat)  (s : gS), f_J4_init_2_0 (gk E) F  l0 l1 s = some (r, s') → W_J4_init_2 E z0 n0 r s' 0 [(0, vR l0), (1, vR l1)] [] s := by
  intro l0 l1 s hB
  unfold f_J4_init_2_0 at hB
  refine gw_aload_n 0 rfl dJ4_init_2_0 ?_
  obtain ⟨u0, hu1, hB⟩ := gB1_some hB
  refine gw_objInit (gsm_spec hu1) q664 q172 q173 (Nat.le_of_ble_eq_true rfl) (Nat.le_of_ble_eq_true rfl) dJ4_init_2_1 ?_
  refine gw_aload_n 1 rfl dJ4_init_2_4 ?_
  obtain ⟨u0, hu4, hB⟩ := gB1_some hB
  obtain ⟨v3, s2, hv3, hB⟩ := gB2_some hB
  refine gw_callU (C := "java/lang/StringBuilder") (owner := "java/lang/AbstractStringBuilder") (x := ⟨"java/lang/AbstractStringBuilder", "getValue", "()[B"⟩) (y := yJ12_getValue) (lw_app (lw_in (([Cond.methodLink "java/lang/String" 552 ⟨"java/lang/AbstractStringBuilder", "getValue", "()[B"⟩, Cond.sameMethod "java/lang/AbstractStringBuilder" "java/lang/AbstractStringBuilder" "getValue" "()[B", Cond.selects "java/lang/StringBuilder" ⟨"java/lang/AbstractStringBuilder", "getValue", "()[B"⟩ yJ12_getValue, Cond.instanceMethod yJ12_getValue, Cond.initialized "java/lang/AbstractStringBuilder"] : List Cond)) [665, 667, 668, 666, 127] (by decide +kernel) (by decide +kernel)) (lw_meth q669)) rfl (show _ ∧ _ ∧ _ = some 0 from by decide +kernel) gcl17 hu4 (As := []) (rest := []) (m_J12_getValue _ _ _ _ hv3) (Nat.le_of_ble_eq_true rfl) (Nat.le_of_ble_eq_true rfl) rfl (Nat.le_of_ble_eq_true rfl) dJ4_init_2_5 (gCont_i ?_)
  refine gw_astore_n (L' := [(3, vR v3), (0, vR l0), (1, vR l1)]) (Nat.le_of_ble_eq_true rfl) rfl dJ4_init_2_8 ?_
  refine gw_aload_n 2 rfl dJ4_init_2_9 ?_
  obtain ⟨u0, hu7, hB⟩ := gB1_some hB
  obtain ⟨v6, s5, hv6, hB⟩ := gB2_some hB
  refine gw_callO (C := "java/lang/StringBuilder") (owner := "java/lang/AbstractStringBuilder") (x := ⟨"java/lang/AbstractStringBuilder", "length", "()I"⟩) (y := yJ13_length) (lw_app (lw_in (([Cond.methodLink "java/lang/String" 549 ⟨"java/lang/AbstractStringBuilder", "length", "()I"⟩, Cond.sameMethod "java/lang/AbstractStringBuilder" "java/lang/AbstractStringBuilder" "length" "()I", Cond.instanceMethod ⟨"java/lang/AbstractStringBuilder", "length", "()I"⟩, Cond.selects "java/lang/StringBuilder" ⟨"java/lang/AbstractStringBuilder", "length", "()I"⟩ yJ13_length, Cond.instanceMethod yJ13_length, Cond.initialized "java/lang/StringBuilder"] : List Cond)) [670, 672, 671, 673, 674, 128] (by decide +kernel) (by decide +kernel)) (lw_meth q675)) q677 (show _ ∧ _ ∧ _ = some 0 from by decide +kernel) gcl17 hu7 (As := []) (rest := []) (m_J13_length _ _ _ _ hv6) (Nat.le_of_ble_eq_true rfl) (Nat.le_of_ble_eq_true rfl) rfl (Nat.le_of_ble_eq_true rfl) dJ4_init_2_10 (gCont_i ?_)
  refine gw_istore (L' := [(4, vI v6), (3, vR v3), (0, vR l0), (1, vR l1)]) (Nat.le_of_ble_eq_true rfl) rfl dJ4_init_2_13 ?_
  refine gw_aload_n 3 rfl dJ4_init_2_15 ?_
  obtain ⟨u0, hu10, hB⟩ := gB1_some hB
  obtain ⟨v9, s8, hv9, hB⟩ := gB2_some hB
  refine gw_callU (C := "java/lang/StringBuilder") (owner := "java/lang/AbstractStringBuilder") (x := ⟨"java/lang/AbstractStringBuilder", "isLatin1", "()Z"⟩) (y := yJ12_isLatin1) (lw_app (lw_in (([Cond.methodLink "java/lang/String" 1047 ⟨"java/lang/AbstractStringBuilder", "isLatin1", "()Z"⟩, Cond.sameMethod "java/lang/AbstractStringBuilder" "java/lang/AbstractStringBuilder" "isLatin1" "()Z", Cond.selects "java/lang/StringBuilder" ⟨"java/lang/AbstractStringBuilder", "isLatin1", "()Z"⟩ yJ12_isLatin1, Cond.instanceMethod yJ12_isLatin1, Cond.initialized "java/lang/AbstractStringBuilder"] : List Cond)) [678, 565, 566, 564, 127] (by decide +kernel) (by decide +kernel)) (lw_meth q567)) rfl (show _ ∧ _ ∧ _ = some 0 from by decide +kernel) gcl17 hu10 (As := []) (rest := []) (m_J12_isLatin1 _ _ _ _ hv9) (Nat.le_of_ble_eq_true rfl) (Nat.le_of_ble_eq_true rfl) rfl (Nat.le_of_ble_eq_true rfl) dJ4_init_2_16 (gCont_i ?_)
  refine gw_if_eq (tgt := 41) dJ4_init_2_19 (by decide) (fun hcnd => ?_) (fun hcnd => ?_)
  · rw [if_pos hcnd] at hB
    refine gw_getsi (v := (1 : Int32)) (by decide) q374 dJ4_init_2_41 ?_
    refine gw_if_eq (tgt := 79) dJ4_init_2_44 (by decide) (fun hcnd => ?_) (fun hcnd => ?_)
    · rw [if_pos hcnd] at hB
      exact gw_sub [2, 1, 0] rfl (w_J4_init_2_79  _ _ _ _ hB)
    · rw [if_neg hcnd] at hB
      refine gw_aload_n 3 rfl dJ4_init_2_47 ?_
      obtain ⟨v11, hv11, hB⟩ := gB1_some hB
      refine gw_getf (C := RJ13) (T := TJ13) (N := 4) (k := 2) gcl17 (by decide) in_J13 q504 (gfI_spec hv11) dJ4_init_2_48 ?_
      refine gw_if_eq (tgt := 79) dJ4_init_2_51 (by decide) (fun hcnd => ?_) (fun hcnd => ?_)
      · rw [if_pos hcnd] at hB
        exact gw_sub [2, 1, 0] rfl (w_J4_init_2_79  _ _ _ _ hB)
      · rw [if_neg hcnd] at hB
        refine gw_aload_n 2 rfl dJ4_init_2_54 ?_
        refine gw_aload_n 1 rfl dJ4_init_2_55 ?_
        refine gw_iconst (v := (0 : Int32)) (by decide) dJ4_init_2_56 ?_
        refine gw_iload 0 rfl dJ4_init_2_57 ?_
        cases hB
  · rw [if_neg hcnd] at hB
    refine gw_aload_n 2 rfl dJ4_init_2_22 ?_
    refine gw_iconst (v := (0 : Int32)) (by decide) dJ4_init_2_23 ?_
    obtain ⟨u0, hu12, hB⟩ := gB1_some hB
    obtain ⟨s13, hs13, hB⟩ := gB1_some hB
    refine gw_putfF (C := RJ4) (T := TJ4) (N := 4) (k := 1) tyJ4 tyJ4_ok nmJ4 gcl16 (by decide) in_J4 q732 rfl rfl rfl (tyJ4_ok 1 (by decide)) (gok_spec hu12) hs13 dJ4_init_2_24 ?_
    refine gw_aload_n 2 rfl dJ4_init_2_27 ?_
    refine gw_aload_n 1 rfl dJ4_init_2_28 ?_
    refine gw_iconst (v := (0 : Int32)) (by decide) dJ4_init_2_29 ?_
    refine gw_iload 0 rfl dJ4_init_2_30 ?_
    obtain ⟨v15, s14, hv15, hB⟩ := gB2_some hB
    refine gw_callS (y := yJ15_copyOfRange) (lw_S q679 q680 q130 q681) hdS_J15_copyOfRange (As := [vR v3, vI (0 : Int32), vI v6]) (rest := [vR l0]) (m_J15_copyOfRange _ _ _ _ _ _ hv15) (Nat.le_of_ble_eq_true rfl) (Nat.le_of_ble_eq_true rfl) rfl (Nat.le_of_ble_eq_true rfl) dJ4_init_2_32 (gCont_i ?_)
    obtain ⟨s16, hs16, hB⟩ := gB1_some hB
    refine gw_putfF (C := RJ4) (T := TJ4) (N := 4) (k := 0) tyJ4 tyJ4_ok nmJ4 gcl16 (by decide) in_J4 q731 rfl rfl rfl (tyJ4_ok 0 (by decide)) (gNF_a _ _) hs16 dJ4_init_2_35 ?_
    refine gw_goto (tgt := 97) dJ4_init_2_38 (by decide) ?_
    exact gw_sub [] rfl (w_J4_init_2_97   _ hB)
noncomputable def f_J4_init_2 (κ : gK) (F : Nat) (a0 : Option Nat) (a1 : Option Nat) (a2 : Option Nat) (s : gS) : Option (Unit × gS) := f_J4_init_2_0 κ F a0 a1 s
theorem m_J4_init_2 {E : gE} {F : Nat} (a0 : Option Nat) (a1 : Option Nat) (a2 : Option Nat) (s : gS) (r : Unit) (s' : gS) (h : f_J4_init_2 (gk E) F a0 a1 a2 s = some (r, s')) : gCT E 4 yJ4_init_2 (ws_ yJ4_init_2 cJ4_init_2 5 none) [vR a0, vR a1, vR a2] s (.inl none) s' := by
  refine gCT_of2 (fun h => absurd h (by decide)) (plainFor_of_name (by decide)) (Nat.le_of_ble_eq_true rfl) ?_
  exact gw_sub [0, 1] rfl (w_J4_init_2_0 _ _ _ h)
def dkwJ4_init_0 : List UInt8 := [42, 43, 1, 183, 1, 233, 177]
abbrev dktJ4_init_0 : List UInt8 := dkwJ4_init_0 ++ []
theorem dksJ4_init_0 : cJ4_init.data.toList.drop 0 = dktJ4_init_0 := by decide +kernel
theorem dJ4_init_0 : decode cJ4_init 0 = .ok (.aload_n 0, 1) := dk_42 (dk_at dksJ4_init_0 0 rfl rfl)
theorem dJ4_init_1 : decode cJ4_init 1 = .ok (.aload_n 1, 1) := dk_43 (dk_at dksJ4_init_0 1 rfl rfl)
theorem dJ4_init_2 : decode cJ4_init 2 = .ok (.aconst_null, 1) := dk_1 (dk_at dksJ4_init_0 2 rfl rfl)
theorem dJ4_init_3 : decode cJ4_init 3 = .ok (.invokespecial 489, 3) := dk_183 1 233 (dk_at dksJ4_init_0 3 rfl rfl)
theorem dJ4_init_6 : decode cJ4_init 6 = .ok (.return_, 1) := dk_177 (dk_at dksJ4_init_0 6 rfl rfl)
/-! java/lang/String.<init>(Ljava/lang/StringBuilder;)V -/
abbrev M_J4_init (z0 n0 : Nat) (s' : gS) : gM := (RJ4, cJ4_init, 2, none, "<init>", [], 5, z0, n0, s'.2.1, s'.2.2)
abbrev W_J4_init (E : gE) (z0 n0 : Nat) (r : Unit) (s' : gS) (pc : Nat) (L : List (Nat × gV)) (st : List gV) (s : gS) : Prop := gW E (M_J4_init z0 n0 s') (gQm E (M_J4_init z0 n0 s') (.inl none) s') pc L st s
noncomputable def f_J4_init_0 (κ : gK) (F : Nat)  (l0 : Option Nat) (l1 : Option Nat) (s : gS) : Option (Unit × gS) :=
  gB1 (gsm l0) fun _ =>
  gB2 (f_J4_init_2 κ F l0 l1 none s) fun v2 s1 =>
  some ((), s1)
set_option maxHeartbeats 4000000 in
theorem w_J4_init_0 {E : gE} {F z0 n0 : Nat} {r : Unit} {s' : gS}   : ∀ (l0 : Option Nat) (l1 : Option Nat)  (s : gS), f_J4_init_0 (gk E) F  l0 l1 s = some (r, s') → W_J4_init E z0 n0 r s' 0 [(0, vR l0), (1, vR l1)] [] s := by
  intro l0 l1 s hB
  unfold f_J4_init_0 at hB
  refine gw_aload_n 0 rfl dJ4_init_0 ?_
  refine gw_aload_n 1 rfl dJ4_init_1 ?_
  refine gw_null dJ4_init_2 ?_
  obtain ⟨u0, hu3, hB⟩ := gB1_some hB
  obtain ⟨v2, s1, hv2, hB⟩ := gB2_some hB
  refine gw_callI (y := yJ4_init_2) (lw_meth q663) q119 q661 q662 rfl hdS_J4_init_2 (gsm_spec hu3) (As := [vR l1, vR none]) (rest := []) (m_J4_init_2 _ _ _ _ _ _ hv2) (Nat.le_of_ble_eq_true rfl) (Nat.le_of_ble_eq_true rfl) rfl (Nat.le_of_ble_eq_true rfl) dJ4_init_3 (gCont_v ?_)
  obtain ⟨rfl, rfl⟩ := Prod.mk.inj (Option.some.inj hB)
  exact gw_vret rfl rfl rfl dJ4_init_6
noncomputable def f_J4_init (κ : gK) (F : Nat) (a0 : Option Nat) (a1 : Option Nat) (s : gS) : Option (Unit × gS) := f_J4_init_0 κ F a0 a1 s
theorem m_J4_init {E : gE} {F : Nat} (a0 : Option Nat) (a1 : Option Nat) (s : gS) (r : Unit) (s' : gS) (h : f_J4_init (gk E) F a0 a1 s = some (r, s')) : gCT E 5 yJ4_init (ws_ yJ4_init cJ4_init 2 none) [vR a0, vR a1] s (.inl none) s' := by
  refine gCT_of2 (fun h => absurd h (by decide)) (plainFor_of_name (by decide)) (Nat.le_of_ble_eq_true rfl) ?_
  exact gw_sub [0, 1] rfl (w_J4_init_0 _ _ _ h)
def dkwJ13_toString_0 : List UInt8 := [187, 0, 18, 89, 42, 183, 0, 137, 176]
abbrev dktJ13_toString_0 : List UInt8 := dkwJ13_toString_0 ++ []
theorem dksJ13_toString_0 : cJ13_toString.data.toList.drop 0 = dktJ13_toString_0 := by decide +kernel
theorem dJ13_toString_0 : decode cJ13_toString 0 = .ok (.new 18, 3) := dk_187 0 18 (dk_at dksJ13_toString_0 0 rfl rfl)
theorem dJ13_toString_3 : decode cJ13_toString 3 = .ok (.dup, 1) := dk_89 (dk_at dksJ13_toString_0 3 rfl rfl)
theorem dJ13_toString_4 : decode cJ13_toString 4 = .ok (.aload_n 0, 1) := dk_42 (dk_at dksJ13_toString_0 4 rfl rfl)
theorem dJ13_toString_5 : decode cJ13_toString 5 = .ok (.invokespecial 137, 3) := dk_183 0 137 (dk_at dksJ13_toString_0 5 rfl rfl)
theorem dJ13_toString_8 : decode cJ13_toString 8 = .ok (.areturn, 1) := dk_176 (dk_at dksJ13_toString_0 8 rfl rfl)
/-! java/lang/StringBuilder.toString()Ljava/lang/String; -/
abbrev M_J13_toString (z0 n0 : Nat) (s' : gS) : gM := (RJ13, cJ13_toString, 1, (some (FieldType.object "java/lang/String")), "toString", [], 6, z0, n0, s'.2.1, s'.2.2)
abbrev W_J13_toString (E : gE) (z0 n0 : Nat) (r : (Option Nat)) (s' : gS) (pc : Nat) (L : List (Nat × gV)) (st : List gV) (s : gS) : Prop := gW E (M_J13_toString z0 n0 s') (gQm E (M_J13_toString z0 n0 s') (.inl (some (vR r))) s') pc L st s
noncomputable def f_J13_toString_0 (κ : gK) (F : Nat)  (l0 : Option Nat) (s : gS) : Option ((Option Nat) × gS) :=
  gB2 (gnw s 16 g0_J4 4) fun v1 s2 =>
  gB1 (gsm v1) fun _ =>
  gB2 (f_J4_init κ F v1 l0 s2) fun v4 s3 =>
  some (v1, s3)
set_option maxHeartbeats 4000000 in
theorem w_J13_toString_0 {E : gE} {F z0 n0 : Nat} {r : (Option Nat)} {s' : gS}   : ∀ (l0 : Option Nat)  (s : gS), f_J13_toString_0 (gk E) F  l0 s = some (r, s') → W_J13_toString E z0 n0 r s' 0 [(0, vR l0)] [] s := by
  intro l0 s hB
  unfold f_J13_toString_0 at hB
  obtain ⟨v1, s2, hv1, hB⟩ := gB2_some hB
  refine gw_new (C := RJ4) (T := TJ4) (N := 4) tyJ4 tyJ4_ok gcl16 in_J4 q656 q657 q119 g0_J4_ok hv1 dJ13_toString_0 ?_
  refine gw_dup rfl dJ13_toString_3 ?_
  refine gw_aload_n 0 rfl dJ13_toString_4 ?_
  obtain ⟨u0, hu5, hB⟩ := gB1_some hB
  obtain ⟨v4, s3, hv4, hB⟩ := gB2_some hB
  refine gw_callI (y := yJ4_init) (lw_meth q660) q119 q658 q659 rfl hdS_J4_init (gsm_spec hu5) (As := [vR l0]) (rest := [vR v1]) (m_J4_init _ _ _ _ _ hv4) (Nat.le_of_ble_eq_true rfl) (Nat.le_of_ble_eq_true rfl) rfl (Nat.le_of_ble_eq_true rfl) dJ13_toString_5 (gCont_v ?_)
  obtain ⟨rfl, rfl⟩ := Prod.mk.inj (Option.some.inj hB)
  exact gw_aret rfl (Or.inl ⟨_, rfl⟩) rfl rfl dJ13_toString_8
noncomputable def f_J13_toString (κ : gK) (F : Nat) (a0 : Option Nat) (s : gS) : Option ((Option Nat) × gS) := f_J13_toString_0 κ F a0 s
theorem m_J13_toString {E : gE} {F : Nat} (a0 : Option Nat) (s : gS) (r : (Option Nat)) (s' : gS) (h : f_J13_toString (gk E) F a0 s = some (r, s')) : gCT E 6 yJ13_toString (ws_ yJ13_toString cJ13_toString 1 (some (FieldType.object "java/lang/String"))) [vR a0] s (.inl (some (vR r))) s' := by
  refine gCT_of2 (fun h => absurd h (by decide)) (plainFor_of_name (by decide)) (Nat.le_of_ble_eq_true rfl) ?_
  exact gw_sub [0] rfl (w_J13_toString_0 _ _ h)
def dkwJ6_newLength_1 : List UInt8 := [184, 0, 201, 172]
abbrev dktJ6_newLength_1 : List UInt8 := dkwJ6_newLength_1 ++ []
def dkwJ6_newLength_0 : List UInt8 := [26, 27, 28, 184, 0, 194, 96, 62, 3, 29, 162, 0, 11, 29, 18, 200, 163, 0, 5, 29, 172, 26, 27]
abbrev dktJ6_newLength_0 : List UInt8 := dkwJ6_newLength_0 ++ dktJ6_newLength_1
theorem dksJ6_newLength_0 : cJ6_newLength.data.toList.drop 0 = dktJ6_newLength_0 := by decide +kernel
theorem dksJ6_newLength_1 : cJ6_newLength.data.toList.drop 23 = dktJ6_newLength_1 := dk_seg dksJ6_newLength_0 23 rfl rfl
theorem dJ6_newLength_0 : decode cJ6_newLength 0 = .ok (.iload_n 0, 1) := dk_26 (dk_at dksJ6_newLength_0 0 rfl rfl)
theorem dJ6_newLength_1 : decode cJ6_newLength 1 = .ok (.iload_n 1, 1) := dk_27 (dk_at dksJ6_newLength_0 1 rfl rfl)
theorem dJ6_newLength_2 : decode cJ6_newLength 2 = .ok (.iload_n 2, 1) := dk_28 (dk_at dksJ6_newLength_0 2 rfl rfl)
theorem dJ6_newLength_3 : decode cJ6_newLength 3 = .ok (.invokestatic 194, 3) := dk_184 0 194 (dk_at dksJ6_newLength_0 3 rfl rfl)
theorem dJ6_newLength_6 : decode cJ6_newLength 6 = .ok (.iadd, 1) := dk_96 (dk_at dksJ6_newLength_0 6 rfl rfl)
theorem dJ6_newLength_7 : decode cJ6_newLength 7 = .ok (.istore_n 3, 1) := dk_62 (dk_at dksJ6_newLength_0 7 rfl rfl)
theorem dJ6_newLength_8 : decode cJ6_newLength 8 = .ok (.iconst 0, 1) := dk_3 (dk_at dksJ6_newLength_0 8 rfl rfl)
theorem dJ6_newLength_9 : decode cJ6_newLength 9 = .ok (.iload_n 3, 1) := dk_29 (dk_at dksJ6_newLength_0 9 rfl rfl)
theorem dJ6_newLength_10 : decode cJ6_newLength 10 = .ok (.if_icmp .ge 11, 3) := dk_162 0 11 (dk_at dksJ6_newLength_0 10 rfl rfl)
theorem dJ6_newLength_13 : decode cJ6_newLength 13 = .ok (.iload_n 3, 1) := dk_29 (dk_at dksJ6_newLength_0 13 rfl rfl)
theorem dJ6_newLength_14 : decode cJ6_newLength 14 = .ok (.ldc 200, 2) := dk_18 200 (dk_at dksJ6_newLength_0 14 rfl rfl)
theorem dJ6_newLength_16 : decode cJ6_newLength 16 = .ok (.if_icmp .gt 5, 3) := dk_163 0 5 (dk_at dksJ6_newLength_0 16 rfl rfl)
theorem dJ6_newLength_19 : decode cJ6_newLength 19 = .ok (.iload_n 3, 1) := dk_29 (dk_at dksJ6_newLength_0 19 rfl rfl)
theorem dJ6_newLength_20 : decode cJ6_newLength 20 = .ok (.ireturn, 1) := dk_172 (dk_at dksJ6_newLength_0 20 rfl rfl)
theorem dJ6_newLength_21 : decode cJ6_newLength 21 = .ok (.iload_n 0, 1) := dk_26 (dk_at dksJ6_newLength_0 21 rfl rfl)
theorem dJ6_newLength_22 : decode cJ6_newLength 22 = .ok (.iload_n 1, 1) := dk_27 (dk_at dksJ6_newLength_0 22 rfl rfl)
theorem dJ6_newLength_23 : decode cJ6_newLength 23 = .ok (.invokestatic 201, 3) := dk_184 0 201 (dk_at dksJ6_newLength_1 0 rfl rfl)
theorem dJ6_newLength_26 : decode cJ6_newLength 26 = .ok (.ireturn, 1) := dk_172 (dk_at dksJ6_newLength_1 3 rfl rfl)
/-! jdk/internal/util/ArraysSupport.newLength(III)I -/
abbrev M_J6_newLength (z0 n0 : Nat) (s' : gS) : gM := (RJ6, cJ6_newLength, 4, (some FieldType.int), "newLength", [], 1, z0, n0, s'.2.1, s'.2.2)
abbrev W_J6_newLength (E : gE) (z0 n0 : Nat) (r : Int32) (s' : gS) (pc : Nat) (L : List (Nat × gV)) (st : List gV) (s : gS) : Prop := gW E (M_J6_newLength z0 n0 s') (gQm E (M_J6_newLength z0 n0 s') (.inl (some (vI r))) s') pc L st s
noncomputable def f_J6_newLength_21 (κ : gK) (F : Nat)  (l0 : Int32) (l1 : Int32) (s : gS) : Option (Int32 × gS) :=
  none
set_option maxHeartbeats 4000000 in
theorem w_J6_newLength_21 {E : gE} {F z0 n0 : Nat} {r : Int32} {s' : gS}   : ∀ (l0 : Int32) (l1 : Int32)  (s : gS), f_J6_newLength_21 (gk E) F  l0 l1 s = some (r, s') → W_J6_newLength E z0 n0 r s' 21 [(0, vI l0), (1, vI l1)] [] s := by
  intro l0 l1 s hB
  unfold f_J6_newLength_21 at hB
  refine gw_iload_n 0 rfl dJ6_newLength_21 ?_
  refine gw_iload_n 1 rfl dJ6_newLength_22 ?_
  cases hB
noncomputable def f_J6_newLength_0 (κ : gK) (F : Nat)  (l0 : Int32) (l1 : Int32) (l2 : Int32) (s : gS) : Option (Int32 × gS) :=
  if (l0 + (if l1 < l2 then l2 else l1)) ≤ (0 : Int32) then
    f_J6_newLength_21 κ F  l0 l1 s
  else
    if (2147483639 : Int32) < (l0 + (if l1 < l2 then l2 else l1)) then
      f_J6_newLength_21 κ F  l0 l1 s
    else
      some ((l0 + (if l1 < l2 then l2 else l1)), s)
set_option maxHeartbeats 4000000 in
theorem w_J6_newLength_0 {E : gE} {F z0 n0 : Nat} {r : Int32} {s' : gS}   : ∀ (l0 : Int32) (l1 : Int32) (l2 : Int32)  (s : gS), f_J6_newLength_0 (gk E) F  l0 l1 l2 s = some (r, s') → W_J6_newLength E z0 n0 r s' 0 [(0, vI l0), (1, vI l1), (2, vI l2)] [] s := by
  intro l0 l1 l2 s hB
  unfold f_J6_newLength_0 at hB
  refine gw_iload_n 0 rfl dJ6_newLength_0 ?_
  refine gw_iload_n 1 rfl dJ6_newLength_1 ?_
  refine gw_iload_n 2 rfl dJ6_newLength_2 ?_
  refine gw_mmax q539 q540 q129 q541 (Nat.le_of_ble_eq_true rfl) (Nat.le_of_ble_eq_true rfl) dJ6_newLength_3 ?_
  refine gw_iadd dJ6_newLength_6 ?_
  refine gw_istore_n (L' := [(3, vI (l0 + (if l1 < l2 then l2 else l1))), (0, vI l0), (1, vI l1), (2, vI l2)]) (Nat.le_of_ble_eq_true rfl) rfl dJ6_newLength_7 ?_
  refine gw_iconst (v := (0 : Int32)) (by decide) dJ6_newLength_8 ?_
  refine gw_iload_n 0 rfl dJ6_newLength_9 ?_
  refine gw_icmp_ge (tgt := 21) dJ6_newLength_10 (by decide) (fun hcnd => ?_) (fun hcnd => ?_)
  · rw [if_pos hcnd] at hB
    exact gw_sub [1, 2] rfl (w_J6_newLength_21  _ _ _ hB)
  · rw [if_neg hcnd] at hB
    refine gw_iload_n 0 rfl dJ6_newLength_13 ?_
    refine gw_ldc (2147483639 : Int32) q542 dJ6_newLength_14 ?_
    refine gw_icmp_gt (tgt := 21) dJ6_newLength_16 (by decide) (fun hcnd => ?_) (fun hcnd => ?_)
    · rw [if_pos hcnd] at hB
      exact gw_sub [1, 2] rfl (w_J6_newLength_21  _ _ _ hB)
    · rw [if_neg hcnd] at hB
      refine gw_iload_n 0 rfl dJ6_newLength_19 ?_
      obtain ⟨rfl, rfl⟩ := Prod.mk.inj (Option.some.inj hB)
      exact gw_iret rfl rfl rfl dJ6_newLength_20
noncomputable def f_J6_newLength (κ : gK) (F : Nat) (a1 : Int32) (a2 : Int32) (a3 : Int32) (s : gS) : Option (Int32 × gS) := f_J6_newLength_0 κ F a1 a2 a3 s
theorem m_J6_newLength {E : gE} {F : Nat} (a1 : Int32) (a2 : Int32) (a3 : Int32) (s : gS) (r : Int32) (s' : gS) (h : f_J6_newLength (gk E) F a1 a2 a3 s = some (r, s')) : gCT E 1 yJ6_newLength (ws_ yJ6_newLength cJ6_newLength 4 (some FieldType.int)) [vI a1, vI a2, vI a3] s (.inl (some (vI r))) s' := by
  refine gCT_of2 (fun h => absurd h (by decide)) (plainFor_of_name (by decide)) (Nat.le_of_ble_eq_true rfl) ?_
  exact gw_sub [0, 1, 2] rfl (w_J6_newLength_0 _ _ _ _ h)
def dkwJ12_newCapacity_2 : List UInt8 := [183, 0, 124, 191, 21, 5, 42, 180, 0, 22, 122, 172]
abbrev dktJ12_newCapacity_2 : List UInt8 := dkwJ12_newCapacity_2 ++ []
def dkwJ12_newCapacity_1 : List UInt8 := [180, 0, 22, 120, 96, 184, 0, 114, 54, 5, 21, 5, 18, 39, 160, 0, 13, 187, 0, 120, 89, 18, 122]
abbrev dktJ12_newCapacity_1 : List UInt8 := dkwJ12_newCapacity_1 ++ dktJ12_newCapacity_2
def dkwJ12_newCapacity_0 : List UInt8 := [42, 180, 0, 15, 190, 61, 27, 42, 180, 0, 22, 120, 62, 29, 28, 100, 54, 4, 28, 21, 4, 28, 5, 42]
abbrev dktJ12_newCapacity_0 : List UInt8 := dkwJ12_newCapacity_0 ++ dktJ12_newCapacity_1
theorem dksJ12_newCapacity_0 : cJ12_newCapacity.data.toList.drop 0 = dktJ12_newCapacity_0 := by decide +kernel
theorem dksJ12_newCapacity_1 : cJ12_newCapacity.data.toList.drop 24 = dktJ12_newCapacity_1 := dk_seg dksJ12_newCapacity_0 24 rfl rfl
theorem dksJ12_newCapacity_2 : cJ12_newCapacity.data.toList.drop 47 = dktJ12_newCapacity_2 := dk_seg dksJ12_newCapacity_1 23 rfl rfl
theorem dJ12_newCapacity_0 : decode cJ12_newCapacity 0 = .ok (.aload_n 0, 1) := dk_42 (dk_at dksJ12_newCapacity_0 0 rfl rfl)
theorem dJ12_newCapacity_1 : decode cJ12_newCapacity 1 = .ok (.getfield 15, 3) := dk_180 0 15 (dk_at dksJ12_newCapacity_0 1 rfl rfl)
theorem dJ12_newCapacity_4 : decode cJ12_newCapacity 4 = .ok (.arraylength, 1) := dk_190 (dk_at dksJ12_newCapacity_0 4 rfl rfl)
theorem dJ12_newCapacity_5 : decode cJ12_newCapacity 5 = .ok (.istore_n 2, 1) := dk_61 (dk_at dksJ12_newCapacity_0 5 rfl rfl)
theorem dJ12_newCapacity_6 : decode cJ12_newCapacity 6 = .ok (.iload_n 1, 1) := dk_27 (dk_at dksJ12_newCapacity_0 6 rfl rfl)
theorem dJ12_newCapacity_7 : decode cJ12_newCapacity 7 = .ok (.aload_n 0, 1) := dk_42 (dk_at dksJ12_newCapacity_0 7 rfl rfl)
theorem dJ12_newCapacity_8 : decode cJ12_newCapacity 8 = .ok (.getfield 22, 3) := dk_180 0 22 (dk_at dksJ12_newCapacity_0 8 rfl rfl)
theorem dJ12_newCapacity_11 : decode cJ12_newCapacity 11 = .ok (.ishl, 1) := dk_120 (dk_at dksJ12_newCapacity_0 11 rfl rfl)
theorem dJ12_newCapacity_12 : decode cJ12_newCapacity 12 = .ok (.istore_n 3, 1) := dk_62 (dk_at dksJ12_newCapacity_0 12 rfl rfl)
theorem dJ12_newCapacity_13 : decode cJ12_newCapacity 13 = .ok (.iload_n 3, 1) := dk_29 (dk_at dksJ12_newCapacity_0 13 rfl rfl)
theorem dJ12_newCapacity_14 : decode cJ12_newCapacity 14 = .ok (.iload_n 2, 1) := dk_28 (dk_at dksJ12_newCapacity_0 14 rfl rfl)
theorem dJ12_newCapacity_15 : decode cJ12_newCapacity 15 = .ok (.isub, 1) := dk_100 (dk_at dksJ12_newCapacity_0 15 rfl rfl)
theorem dJ12_newCapacity_16 : decode cJ12_newCapacity 16 = .ok (.istore 4, 2) := dk_54 4 (dk_at dksJ12_newCapacity_0 16 rfl rfl)
theorem dJ12_newCapacity_18 : decode cJ12_newCapacity 18 = .ok (.iload_n 2, 1) := dk_28 (dk_at dksJ12_newCapacity_0 18 rfl rfl)
theorem dJ12_newCapacity_19 : decode cJ12_newCapacity 19 = .ok (.iload 4, 2) := dk_21 4 (dk_at dksJ12_newCapacity_0 19 rfl rfl)
theorem dJ12_newCapacity_21 : decode cJ12_newCapacity 21 = .ok (.iload_n 2, 1) := dk_28 (dk_at dksJ12_newCapacity_0 21 rfl rfl)
theorem dJ12_newCapacity_22 : decode cJ12_newCapacity 22 = .ok (.iconst 2, 1) := dk_5 (dk_at dksJ12_newCapacity_0 22 rfl rfl)
theorem dJ12_newCapacity_23 : decode cJ12_newCapacity 23 = .ok (.aload_n 0, 1) := dk_42 (dk_at dksJ12_newCapacity_0 23 rfl rfl)
theorem dJ12_newCapacity_24 : decode cJ12_newCapacity 24 = .ok (.getfield 22, 3) := dk_180 0 22 (dk_at dksJ12_newCapacity_1 0 rfl rfl)
theorem dJ12_newCapacity_27 : decode cJ12_newCapacity 27 = .ok (.ishl, 1) := dk_120 (dk_at dksJ12_newCapacity_1 3 rfl rfl)
theorem dJ12_newCapacity_28 : decode cJ12_newCapacity 28 = .ok (.iadd, 1) := dk_96 (dk_at dksJ12_newCapacity_1 4 rfl rfl)
theorem dJ12_newCapacity_29 : decode cJ12_newCapacity 29 = .ok (.invokestatic 114, 3) := dk_184 0 114 (dk_at dksJ12_newCapacity_1 5 rfl rfl)
theorem dJ12_newCapacity_32 : decode cJ12_newCapacity 32 = .ok (.istore 5, 2) := dk_54 5 (dk_at dksJ12_newCapacity_1 8 rfl rfl)
theorem dJ12_newCapacity_34 : decode cJ12_newCapacity 34 = .ok (.iload 5, 2) := dk_21 5 (dk_at dksJ12_newCapacity_1 10 rfl rfl)
theorem dJ12_newCapacity_36 : decode cJ12_newCapacity 36 = .ok (.ldc 39, 2) := dk_18 39 (dk_at dksJ12_newCapacity_1 12 rfl rfl)
theorem dJ12_newCapacity_38 : decode cJ12_newCapacity 38 = .ok (.if_icmp .ne 13, 3) := dk_160 0 13 (dk_at dksJ12_newCapacity_1 14 rfl rfl)
theorem dJ12_newCapacity_41 : decode cJ12_newCapacity 41 = .ok (.new 120, 3) := dk_187 0 120 (dk_at dksJ12_newCapacity_1 17 rfl rfl)
theorem dJ12_newCapacity_44 : decode cJ12_newCapacity 44 = .ok (.dup, 1) := dk_89 (dk_at dksJ12_newCapacity_1 20 rfl rfl)
theorem dJ12_newCapacity_45 : decode cJ12_newCapacity 45 = .ok (.ldc 122, 2) := dk_18 122 (dk_at dksJ12_newCapacity_1 21 rfl rfl)
theorem dJ12_newCapacity_47 : decode cJ12_newCapacity 47 = .ok (.invokespecial 124, 3) := dk_183 0 124 (dk_at dksJ12_newCapacity_2 0 rfl rfl)
theorem dJ12_newCapacity_50 : decode cJ12_newCapacity 50 = .ok (.athrow, 1) := dk_191 (dk_at dksJ12_newCapacity_2 3 rfl rfl)
theorem dJ12_newCapacity_51 : decode cJ12_newCapacity 51 = .ok (.iload 5, 2) := dk_21 5 (dk_at dksJ12_newCapacity_2 4 rfl rfl)
theorem dJ12_newCapacity_53 : decode cJ12_newCapacity 53 = .ok (.aload_n 0, 1) := dk_42 (dk_at dksJ12_newCapacity_2 6 rfl rfl)
theorem dJ12_newCapacity_54 : decode cJ12_newCapacity 54 = .ok (.getfield 22, 3) := dk_180 0 22 (dk_at dksJ12_newCapacity_2 7 rfl rfl)
theorem dJ12_newCapacity_57 : decode cJ12_newCapacity 57 = .ok (.ishr, 1) := dk_122 (dk_at dksJ12_newCapacity_2 10 rfl rfl)
theorem dJ12_newCapacity_58 : decode cJ12_newCapacity 58 = .ok (.ireturn, 1) := dk_172 (dk_at dksJ12_newCapacity_2 11 rfl rfl)
/-! java/lang/AbstractStringBuilder.newCapacity(I)I -/
abbrev M_J12_newCapacity (z0 n0 : Nat) (s' : gS) : gM := (RJ12, cJ12_newCapacity, 6, (some FieldType.int), "newCapacity", [], 2, z0, n0, s'.2.1, s'.2.2)
abbrev W_J12_newCapacity (E : gE) (z0 n0 : Nat) (r : Int32) (s' : gS) (pc : Nat) (L : List (Nat × gV)) (st : List gV) (s : gS) : Prop := gW E (M_J12_newCapacity z0 n0 s') (gQm E (M_J12_newCapacity z0 n0 s') (.inl (some (vI r))) s') pc L st s
noncomputable def f_J12_newCapacity_0 (κ : gK) (F : Nat)  (l0 : Option Nat) (l1 : Int32) (s : gS) : Option (Int32 × gS) :=
  gB1 (gfR s l0 17 0) fun v1 =>
  gB1 (gal s v1) fun v2 =>
  gB1 (gfI s l0 17 1) fun v3 =>
  gB1 (gfI s l0 17 1) fun v4 =>
  gB2 (f_J6_newLength κ F v2 ((l1 <<< (v3 &&& 31)) - v2) (v2 + ((2 : Int32) <<< (v4 &&& 31))) s) fun v6 s5 =>
  if v6 = (2147483647 : Int32) then
    none
  else
    gB1 (gfI s5 l0 17 1) fun v7 =>
    some ((v6 >>> (v7 &&& 31)), s5)
set_option maxHeartbeats 4000000 in
theorem w_J12_newCapacity_0 {E : gE} {F z0 n0 : Nat} {r : Int32} {s' : gS}   : ∀ (l0 : Option Nat) (l1 : Int32)  (s : gS), f_J12_newCapacity_0 (gk E) F  l0 l1 s = some (r, s') → W_J12_newCapacity E z0 n0 r s' 0 [(0, vR l0), (1, vI l1)] [] s := by
  intro l0 l1 s hB
  unfold f_J12_newCapacity_0 at hB
  refine gw_aload_n 0 rfl dJ12_newCapacity_0 ?_
  obtain ⟨v1, hv1, hB⟩ := gB1_some hB
  refine gw_getf (C := RJ13) (T := TJ13) (N := 4) (k := 0) gcl17 (by decide) in_J13 q501 (gfR_spec hv1) dJ12_newCapacity_1 ?_
  obtain ⟨v2, hv2, hB⟩ := gB1_some hB
  refine gw_alen hv2 dJ12_newCapacity_4 ?_
  refine gw_istore_n (L' := [(2, vI v2), (0, vR l0), (1, vI l1)]) (Nat.le_of_ble_eq_true rfl) rfl dJ12_newCapacity_5 ?_
  refine gw_iload_n 2 rfl dJ12_newCapacity_6 ?_
  refine gw_aload_n 1 rfl dJ12_newCapacity_7 ?_
  obtain ⟨v3, hv3, hB⟩ := gB1_some hB
  refine gw_getf (C := RJ13) (T := TJ13) (N := 4) (k := 1) gcl17 (by decide) in_J13 q502 (gfI_spec hv3) dJ12_newCapacity_8 ?_
  refine gw_ishl dJ12_newCapacity_11 ?_
  refine gw_istore_n (L' := [(3, vI (l1 <<< (v3 &&& 31))), (2, vI v2), (0, vR l0), (1, vI l1)]) (Nat.le_of_ble_eq_true rfl) rfl dJ12_newCapacity_12 ?_
  refine gw_iload_n 0 rfl dJ12_newCapacity_13 ?_
  refine gw_iload_n 1 rfl dJ12_newCapacity_14 ?_
  refine gw_isub dJ12_newCapacity_15 ?_
  refine gw_istore (L' := [(4, vI ((l1 <<< (v3 &&& 31)) - v2)), (3, vI (l1 <<< (v3 &&& 31))), (2, vI v2), (0, vR l0), (1, vI l1)]) (Nat.le_of_ble_eq_true rfl) rfl dJ12_newCapacity_16 ?_
  refine gw_iload_n 2 rfl dJ12_newCapacity_18 ?_
  refine gw_iload 0 rfl dJ12_newCapacity_19 ?_
  refine gw_iload_n 2 rfl dJ12_newCapacity_21 ?_
  refine gw_iconst (v := (2 : Int32)) (by decide) dJ12_newCapacity_22 ?_
  refine gw_aload_n 3 rfl dJ12_newCapacity_23 ?_
  obtain ⟨v4, hv4, hB⟩ := gB1_some hB
  refine gw_getf (C := RJ13) (T := TJ13) (N := 4) (k := 1) gcl17 (by decide) in_J13 q502 (gfI_spec hv4) dJ12_newCapacity_24 ?_
  refine gw_ishl dJ12_newCapacity_27 ?_
  refine gw_iadd dJ12_newCapacity_28 ?_
  obtain ⟨v6, s5, hv6, hB⟩ := gB2_some hB
  refine gw_callS (y := yJ6_newLength) (lw_S q536 q537 q121 q538) hdS_J6_newLength (As := [vI v2, vI ((l1 <<< (v3 &&& 31)) - v2), vI (v2 + ((2 : Int32) <<< (v4 &&& 31)))]) (rest := []) (m_J6_newLength _ _ _ _ _ _ hv6) (Nat.le_of_ble_eq_true rfl) (Nat.le_of_ble_eq_true rfl) rfl (Nat.le_of_ble_eq_true rfl) dJ12_newCapacity_29 (gCont_i ?_)
  refine gw_istore (L' := [(5, vI v6), (4, vI ((l1 <<< (v3 &&& 31)) - v2)), (3, vI (l1 <<< (v3 &&& 31))), (2, vI v2), (0, vR l0), (1, vI l1)]) (Nat.le_of_ble_eq_true rfl) rfl dJ12_newCapacity_32 ?_
  refine gw_iload 0 rfl dJ12_newCapacity_34 ?_
  refine gw_ldc (2147483647 : Int32) q546 dJ12_newCapacity_36 ?_
  refine gw_icmp_ne (tgt := 51) dJ12_newCapacity_38 (by decide) (fun hcnd => ?_) (fun hcnd => ?_)
  · rw [if_neg hcnd] at hB
    refine gw_iload 0 rfl dJ12_newCapacity_51 ?_
    refine gw_aload_n 4 rfl dJ12_newCapacity_53 ?_
    obtain ⟨v7, hv7, hB⟩ := gB1_some hB
    refine gw_getf (C := RJ13) (T := TJ13) (N := 4) (k := 1) gcl17 (by decide) in_J13 q502 (gfI_spec hv7) dJ12_newCapacity_54 ?_
    refine gw_ishr dJ12_newCapacity_57 ?_
    obtain ⟨rfl, rfl⟩ := Prod.mk.inj (Option.some.inj hB)
    exact gw_iret rfl rfl rfl dJ12_newCapacity_58
  · rw [if_pos hcnd] at hB
    cases hB
noncomputable def f_J12_newCapacity (κ : gK) (F : Nat) (a0 : Option Nat) (a1 : Int32) (s : gS) : Option (Int32 × gS) := f_J12_newCapacity_0 κ F a0 a1 s
theorem m_J12_newCapacity {E : gE} {F : Nat} (a0 : Option Nat) (a1 : Int32) (s : gS) (r : Int32) (s' : gS) (h : f_J12_newCapacity (gk E) F a0 a1 s = some (r, s')) : gCT E 2 yJ12_newCapacity (ws_ yJ12_newCapacity cJ12_newCapacity 6 (some FieldType.int)) [vR a0, vI a1] s (.inl (some (vI r))) s' := by
  refine gCT_of2 (fun h => absurd h (by decide)) (plainFor_of_name (by decide)) (Nat.le_of_ble_eq_true rfl) ?_
  exact gw_sub [0, 1] rfl (w_J12_newCapacity_0 _ _ _ h)
def dkwJ15_copyOf_1 : List UInt8 := [27, 184, 1, 48, 184, 0, 150, 44, 176]
abbrev dktJ15_copyOf_1 : List UInt8 := dkwJ15_copyOf_1 ++ []
def dkwJ15_copyOf_0 : List UInt8 := [27, 42, 190, 160, 0, 11, 42, 182, 1, 54, 192, 1, 55, 176, 27, 188, 8, 77, 42, 3, 44, 3, 42, 190]
abbrev dktJ15_copyOf_0 : List UInt8 := dkwJ15_copyOf_0 ++ dktJ15_copyOf_1
theorem dksJ15_copyOf_0 : cJ15_copyOf.data.toList.drop 0 = dktJ15_copyOf_0 := by decide +kernel
theorem dksJ15_copyOf_1 : cJ15_copyOf.data.toList.drop 24 = dktJ15_copyOf_1 := dk_seg dksJ15_copyOf_0 24 rfl rfl
theorem dJ15_copyOf_0 : decode cJ15_copyOf 0 = .ok (.iload_n 1, 1) := dk_27 (dk_at dksJ15_copyOf_0 0 rfl rfl)
theorem dJ15_copyOf_1 : decode cJ15_copyOf 1 = .ok (.aload_n 0, 1) := dk_42 (dk_at dksJ15_copyOf_0 1 rfl rfl)
theorem dJ15_copyOf_2 : decode cJ15_copyOf 2 = .ok (.arraylength, 1) := dk_190 (dk_at dksJ15_copyOf_0 2 rfl rfl)
theorem dJ15_copyOf_3 : decode cJ15_copyOf 3 = .ok (.if_icmp .ne 11, 3) := dk_160 0 11 (dk_at dksJ15_copyOf_0 3 rfl rfl)
theorem dJ15_copyOf_6 : decode cJ15_copyOf 6 = .ok (.aload_n 0, 1) := dk_42 (dk_at dksJ15_copyOf_0 6 rfl rfl)
theorem dJ15_copyOf_7 : decode cJ15_copyOf 7 = .ok (.invokevirtual 310, 3) := dk_182 1 54 (dk_at dksJ15_copyOf_0 7 rfl rfl)
theorem dJ15_copyOf_10 : decode cJ15_copyOf 10 = .ok (.checkcast 311, 3) := dk_192 1 55 (dk_at dksJ15_copyOf_0 10 rfl rfl)
theorem dJ15_copyOf_13 : decode cJ15_copyOf 13 = .ok (.areturn, 1) := dk_176 (dk_at dksJ15_copyOf_0 13 rfl rfl)
theorem dJ15_copyOf_14 : decode cJ15_copyOf 14 = .ok (.iload_n 1, 1) := dk_27 (dk_at dksJ15_copyOf_0 14 rfl rfl)
theorem dJ15_copyOf_15 : decode cJ15_copyOf 15 = .ok (.newarray .byte, 2) := dk_188_8 (dk_at dksJ15_copyOf_0 15 rfl rfl)
theorem dJ15_copyOf_17 : decode cJ15_copyOf 17 = .ok (.astore_n 2, 1) := dk_77 (dk_at dksJ15_copyOf_0 17 rfl rfl)
theorem dJ15_copyOf_18 : decode cJ15_copyOf 18 = .ok (.aload_n 0, 1) := dk_42 (dk_at dksJ15_copyOf_0 18 rfl rfl)
theorem dJ15_copyOf_19 : decode cJ15_copyOf 19 = .ok (.iconst 0, 1) := dk_3 (dk_at dksJ15_copyOf_0 19 rfl rfl)
theorem dJ15_copyOf_20 : decode cJ15_copyOf 20 = .ok (.aload_n 2, 1) := dk_44 (dk_at dksJ15_copyOf_0 20 rfl rfl)
theorem dJ15_copyOf_21 : decode cJ15_copyOf 21 = .ok (.iconst 0, 1) := dk_3 (dk_at dksJ15_copyOf_0 21 rfl rfl)
theorem dJ15_copyOf_22 : decode cJ15_copyOf 22 = .ok (.aload_n 0, 1) := dk_42 (dk_at dksJ15_copyOf_0 22 rfl rfl)
theorem dJ15_copyOf_23 : decode cJ15_copyOf 23 = .ok (.arraylength, 1) := dk_190 (dk_at dksJ15_copyOf_0 23 rfl rfl)
theorem dJ15_copyOf_24 : decode cJ15_copyOf 24 = .ok (.iload_n 1, 1) := dk_27 (dk_at dksJ15_copyOf_1 0 rfl rfl)
theorem dJ15_copyOf_25 : decode cJ15_copyOf 25 = .ok (.invokestatic 304, 3) := dk_184 1 48 (dk_at dksJ15_copyOf_1 1 rfl rfl)
theorem dJ15_copyOf_28 : decode cJ15_copyOf 28 = .ok (.invokestatic 150, 3) := dk_184 0 150 (dk_at dksJ15_copyOf_1 4 rfl rfl)
theorem dJ15_copyOf_31 : decode cJ15_copyOf 31 = .ok (.aload_n 2, 1) := dk_44 (dk_at dksJ15_copyOf_1 7 rfl rfl)
theorem dJ15_copyOf_32 : decode cJ15_copyOf 32 = .ok (.areturn, 1) := dk_176 (dk_at dksJ15_copyOf_1 8 rfl rfl)
/-! java/util/Arrays.copyOf([BI)[B -/
abbrev M_J15_copyOf (z0 n0 : Nat) (s' : gS) : gM := (RJ15, cJ15_copyOf, 3, (some (FieldType.array FieldType.byte)), "copyOf", [], 1, z0, n0, s'.2.1, s'.2.2)
abbrev W_J15_copyOf (E : gE) (z0 n0 : Nat) (r : (Option Nat)) (s' : gS) (pc : Nat) (L : List (Nat × gV)) (st : List gV) (s : gS) : Prop := gW E (M_J15_copyOf z0 n0 s') (gQm E (M_J15_copyOf z0 n0 s') (.inl (some (vR r))) s') pc L st s
noncomputable def f_J15_copyOf_0 (κ : gK) (F : Nat)  (l0 : Option Nat) (l1 : Int32) (s : gS) : Option ((Option Nat) × gS) :=
  gB1 (gal s l0) fun v1 =>
  if l1 = v1 then
    gB2 (gcln κ s 2 l0) fun v6 s7 =>
    gB1 (gct s7 v6 2) fun _ =>
    some (v6, s7)
  else
    gB2 (gna s 2 l1) fun v2 s3 =>
    gB1 (gal s3 l0) fun v4 =>
    gB1 (gcpI κ s3 2 l0 (0 : Int32) v2 (0 : Int32) (if l1 < v4 then l1 else v4)) fun s5 =>
    some (v2, s5)
set_option maxHeartbeats 4000000 in
theorem w_J15_copyOf_0 {E : gE} {F z0 n0 : Nat} {r : (Option Nat)} {s' : gS}   : ∀ (l0 : Option Nat) (l1 : Int32)  (s : gS), f_J15_copyOf_0 (gk E) F  l0 l1 s = some (r, s') → W_J15_copyOf E z0 n0 r s' 0 [(0, vR l0), (1, vI l1)] [] s := by
  intro l0 l1 s hB
  unfold f_J15_copyOf_0 at hB
  refine gw_iload_n 1 rfl dJ15_copyOf_0 ?_
  refine gw_aload_n 0 rfl dJ15_copyOf_1 ?_
  obtain ⟨v1, hv1, hB⟩ := gB1_some hB
  refine gw_alen hv1 dJ15_copyOf_2 ?_
  refine gw_icmp_ne (tgt := 14) dJ15_copyOf_3 (by decide) (fun hcnd => ?_) (fun hcnd => ?_)
  · rw [if_neg hcnd] at hB
    refine gw_iload_n 1 rfl dJ15_copyOf_14 ?_
    obtain ⟨v2, s3, hv2, hB⟩ := gB2_some hB
    refine gw_newarr (atype := .byte) (t := 2) rfl rfl rfl (by decide) rfl q515 hv2 dJ15_copyOf_15 ?_
    refine gw_astore_n (L' := [(2, vR v2), (0, vR l0), (1, vI l1)]) (Nat.le_of_ble_eq_true rfl) rfl dJ15_copyOf_17 ?_
    refine gw_aload_n 1 rfl dJ15_copyOf_18 ?_
    refine gw_iconst (v := (0 : Int32)) (by decide) dJ15_copyOf_19 ?_
    refine gw_aload_n 0 rfl dJ15_copyOf_20 ?_
    refine gw_iconst (v := (0 : Int32)) (by decide) dJ15_copyOf_21 ?_
    refine gw_aload_n 1 rfl dJ15_copyOf_22 ?_
    obtain ⟨v4, hv4, hB⟩ := gB1_some hB
    refine gw_alen hv4 dJ15_copyOf_23 ?_
    refine gw_iload_n 2 rfl dJ15_copyOf_24 ?_
    refine gw_mmin q557 q558 q129 q559 (Nat.le_of_ble_eq_true rfl) (Nat.le_of_ble_eq_true rfl) dJ15_copyOf_25 ?_
    obtain ⟨s5, hs5, hB⟩ := gB1_some hB
    refine gw_copyI (t := 2) rfl rfl q560 q562 q561 q118 (Nat.le_of_ble_eq_true rfl) (Nat.le_of_ble_eq_true rfl) hs5 dJ15_copyOf_28 ?_
    refine gw_aload_n 0 rfl dJ15_copyOf_31 ?_
    obtain ⟨rfl, rfl⟩ := Prod.mk.inj (Option.some.inj hB)
    exact gw_aret rfl (Or.inr ⟨_, rfl⟩) rfl rfl dJ15_copyOf_32
  · rw [if_pos hcnd] at hB
    refine gw_aload_n 0 rfl dJ15_copyOf_6 ?_
    obtain ⟨v6, s7, hv6, hB⟩ := gB2_some hB
    refine gw_clone (t := 2) (ad := "[B") rfl rfl (by decide) q550 q551 q552 q553 q554 q555 (Nat.le_of_ble_eq_true rfl) (Nat.le_of_ble_eq_true rfl) hv6 dJ15_copyOf_7 ?_
    obtain ⟨u0, hu8, hB⟩ := gB1_some hB
    refine gw_castA (t := 2) rfl (by decide) hu8 q556 dJ15_copyOf_10 ?_
    obtain ⟨rfl, rfl⟩ := Prod.mk.inj (Option.some.inj hB)
    exact gw_aret rfl (Or.inr ⟨_, rfl⟩) rfl rfl dJ15_copyOf_13
noncomputable def f_J15_copyOf (κ : gK) (F : Nat) (a1 : Option Nat) (a2 : Int32) (s : gS) : Option ((Option Nat) × gS) := f_J15_copyOf_0 κ F a1 a2 s
theorem m_J15_copyOf {E : gE} {F : Nat} (a1 : Option Nat) (a2 : Int32) (s : gS) (r : (Option Nat)) (s' : gS) (h : f_J15_copyOf (gk E) F a1 a2 s = some (r, s')) : gCT E 1 yJ15_copyOf (ws_ yJ15_copyOf cJ15_copyOf 3 (some (FieldType.array FieldType.byte))) [vR a1, vI a2] s (.inl (some (vR r))) s' := by
  refine gCT_of2 (fun h => absurd h (by decide)) (plainFor_of_name (by decide)) (Nat.le_of_ble_eq_true rfl) ?_
  exact gw_sub [0, 1] rfl (w_J15_copyOf_0 _ _ _ h)
def dkwJ12_ensureCapacityInternal_1 : List UInt8 := [182, 0, 104, 42, 180, 0, 22, 120, 184, 0, 108, 181, 0, 15, 177]
abbrev dktJ12_ensureCapacityInternal_1 : List UInt8 := dkwJ12_ensureCapacityInternal_1 ++ []
def dkwJ12_ensureCapacityInternal_0 : List UInt8 := [42, 180, 0, 15, 190, 42, 180, 0, 22, 122, 61, 27, 28, 100, 158, 0, 24, 42, 42, 180, 0, 15, 42, 27]
abbrev dktJ12_ensureCapacityInternal_0 : List UInt8 := dkwJ12_ensureCapacityInternal_0 ++ dktJ12_ensureCapacityInternal_1
theorem dksJ12_ensureCapacityInternal_0 : cJ12_ensureCapacityInternal.data.toList.drop 0 = dktJ12_ensureCapacityInternal_0 := by decide +kernel
theorem dksJ12_ensureCapacityInternal_1 : cJ12_ensureCapacityInternal.data.toList.drop 24 = dktJ12_ensureCapacityInternal_1 := dk_seg dksJ12_ensureCapacityInternal_0 24 rfl rfl
theorem dJ12_ensureCapacityInternal_0 : decode cJ12_ensureCapacityInternal 0 = .ok (.aload_n 0, 1) := dk_42 (dk_at dksJ12_ensureCapacityInternal_0 0 rfl rfl)
theorem dJ12_ensureCapacityInternal_1 : decode cJ12_ensureCapacityInternal 1 = .ok (.getfield 15, 3) := dk_180 0 15 (dk_at dksJ12_ensureCapacityInternal_0 1 rfl rfl)
theorem dJ12_ensureCapacityInternal_4 : decode cJ12_ensureCapacityInternal 4 = .ok (.arraylength, 1) := dk_190 (dk_at dksJ12_ensureCapacityInternal_0 4 rfl rfl)
theorem dJ12_ensureCapacityInternal_5 : decode cJ12_ensureCapacityInternal 5 = .ok (.aload_n 0, 1) := dk_42 (dk_at dksJ12_ensureCapacityInternal_0 5 rfl rfl)
theorem dJ12_ensureCapacityInternal_6 : decode cJ12_ensureCapacityInternal 6 = .ok (.getfield 22, 3) := dk_180 0 22 (dk_at dksJ12_ensureCapacityInternal_0 6 rfl rfl)
theorem dJ12_ensureCapacityInternal_9 : decode cJ12_ensureCapacityInternal 9 = .ok (.ishr, 1) := dk_122 (dk_at dksJ12_ensureCapacityInternal_0 9 rfl rfl)
theorem dJ12_ensureCapacityInternal_10 : decode cJ12_ensureCapacityInternal 10 = .ok (.istore_n 2, 1) := dk_61 (dk_at dksJ12_ensureCapacityInternal_0 10 rfl rfl)
theorem dJ12_ensureCapacityInternal_11 : decode cJ12_ensureCapacityInternal 11 = .ok (.iload_n 1, 1) := dk_27 (dk_at dksJ12_ensureCapacityInternal_0 11 rfl rfl)
theorem dJ12_ensureCapacityInternal_12 : decode cJ12_ensureCapacityInternal 12 = .ok (.iload_n 2, 1) := dk_28 (dk_at dksJ12_ensureCapacityInternal_0 12 rfl rfl)
theorem dJ12_ensureCapacityInternal_13 : decode cJ12_ensureCapacityInternal 13 = .ok (.isub, 1) := dk_100 (dk_at dksJ12_ensureCapacityInternal_0 13 rfl rfl)
theorem dJ12_ensureCapacityInternal_14 : decode cJ12_ensureCapacityInternal 14 = .ok (.ifCond .le 24, 3) := dk_158 0 24 (dk_at dksJ12_ensureCapacityInternal_0 14 rfl rfl)
theorem dJ12_ensureCapacityInternal_17 : decode cJ12_ensureCapacityInternal 17 = .ok (.aload_n 0, 1) := dk_42 (dk_at dksJ12_ensureCapacityInternal_0 17 rfl rfl)
theorem dJ12_ensureCapacityInternal_18 : decode cJ12_ensureCapacityInternal 18 = .ok (.aload_n 0, 1) := dk_42 (dk_at dksJ12_ensureCapacityInternal_0 18 rfl rfl)
theorem dJ12_ensureCapacityInternal_19 : decode cJ12_ensureCapacityInternal 19 = .ok (.getfield 15, 3) := dk_180 0 15 (dk_at dksJ12_ensureCapacityInternal_0 19 rfl rfl)
theorem dJ12_ensureCapacityInternal_22 : decode cJ12_ensureCapacityInternal 22 = .ok (.aload_n 0, 1) := dk_42 (dk_at dksJ12_ensureCapacityInternal_0 22 rfl rfl)
theorem dJ12_ensureCapacityInternal_23 : decode cJ12_ensureCapacityInternal 23 = .ok (.iload_n 1, 1) := dk_27 (dk_at dksJ12_ensureCapacityInternal_0 23 rfl rfl)
theorem dJ12_ensureCapacityInternal_24 : decode cJ12_ensureCapacityInternal 24 = .ok (.invokevirtual 104, 3) := dk_182 0 104 (dk_at dksJ12_ensureCapacityInternal_1 0 rfl rfl)
theorem dJ12_ensureCapacityInternal_27 : decode cJ12_ensureCapacityInternal 27 = .ok (.aload_n 0, 1) := dk_42 (dk_at dksJ12_ensureCapacityInternal_1 3 rfl rfl)
theorem dJ12_ensureCapacityInternal_28 : decode cJ12_ensureCapacityInternal 28 = .ok (.getfield 22, 3) := dk_180 0 22 (dk_at dksJ12_ensureCapacityInternal_1 4 rfl rfl)
theorem dJ12_ensureCapacityInternal_31 : decode cJ12_ensureCapacityInternal 31 = .ok (.ishl, 1) := dk_120 (dk_at dksJ12_ensureCapacityInternal_1 7 rfl rfl)
theorem dJ12_ensureCapacityInternal_32 : decode cJ12_ensureCapacityInternal 32 = .ok (.invokestatic 108, 3) := dk_184 0 108 (dk_at dksJ12_ensureCapacityInternal_1 8 rfl rfl)
theorem dJ12_ensureCapacityInternal_35 : decode cJ12_ensureCapacityInternal 35 = .ok (.putfield 15, 3) := dk_181 0 15 (dk_at dksJ12_ensureCapacityInternal_1 11 rfl rfl)
theorem dJ12_ensureCapacityInternal_38 : decode cJ12_ensureCapacityInternal 38 = .ok (.return_, 1) := dk_177 (dk_at dksJ12_ensureCapacityInternal_1 14 rfl rfl)
/-! java/lang/AbstractStringBuilder.ensureCapacityInternal(I)V -/
abbrev M_J12_ensureCapacityInternal (z0 n0 : Nat) (s' : gS) : gM := (RJ12, cJ12_ensureCapacityInternal, 3, none, "ensureCapacityInternal", [], 3, z0, n0, s'.2.1, s'.2.2)
abbrev W_J12_ensureCapacityInternal (E : gE) (z0 n0 : Nat) (r : Unit) (s' : gS) (pc : Nat) (L : List (Nat × gV)) (st : List gV) (s : gS) : Prop := gW E (M_J12_ensureCapacityInternal z0 n0 s') (gQm E (M_J12_ensureCapacityInternal z0 n0 s') (.inl none) s') pc L st s
noncomputable def f_J12_ensureCapacityInternal_38 (κ : gK) (F : Nat)   (s : gS) : Option (Unit × gS) :=
  some ((), s)
set_option maxHeartbeats 4000000 in
theorem w_J12_ensureCapacityInternal_38 {E : gE} {F z0 n0 : Nat} {r : Unit} {s' : gS}   : ∀   (s : gS), f_J12_ensureCapacityInternal_38 (gk E) F   s = some (r, s') → W_J12_ensureCapacityInternal E z0 n0 r s' 38 [] [] s := by
  intro  s hB
  unfold f_J12_ensureCapacityInternal_38 at hB
  obtain ⟨rfl, rfl⟩ := Prod.mk.inj (Option.some.inj hB)
  exact gw_vret rfl rfl rfl dJ12_ensureCapacityInternal_38
noncomputable def f_J12_ensureCapacityInternal_0 (κ : gK) (F : Nat)  (l0 : Option Nat) (l1 : Int32) (s : gS) : Option (Unit × gS) :=
  gB1 (gfR s l0 17 0) fun v1 =>
  gB1 (gal s v1) fun v2 =>
  gB1 (gfI s l0 17 1) fun v3 =>
  if (l1 - (v2 >>> (v3 &&& 31))) ≤ 0 then
    f_J12_ensureCapacityInternal_38 κ F  s
  else
    gB1 (gfR s l0 17 0) fun v4 =>
    gB1 (gck s l0 17) fun _ =>
    gB2 (f_J12_newCapacity κ F l0 l1 s) fun v6 s5 =>
    gB1 (gfI s5 l0 17 1) fun v8 =>
    gB2 (f_J15_copyOf κ F v4 (v6 <<< (v8 &&& 31)) s5) fun v10 s9 =>
    gB1 (gpf κ s9 l0 17 0 (va_rf v10)) fun s11 =>
    f_J12_ensureCapacityInternal_38 κ F  s11
set_option maxHeartbeats 4000000 in
theorem w_J12_ensureCapacityInternal_0 {E : gE} {F z0 n0 : Nat} {r : Unit} {s' : gS}   : ∀ (l0 : Option Nat) (l1 : Int32)  (s : gS), f_J12_ensureCapacityInternal_0 (gk E) F  l0 l1 s = some (r, s') → W_J12_ensureCapacityInternal E z0 n0 r s' 0 [(0, vR l0), (1, vI l1)] [] s := by
  intro l0 l1 s hB
  unfold f_J12_ensureCapacityInternal_0 at hB
  refine gw_aload_n 0 rfl dJ12_ensureCapacityInternal_0 ?_
  obtain ⟨v1, hv1, hB⟩ := gB1_some hB
  refine gw_getf (C := RJ13) (T := TJ13) (N := 4) (k := 0) gcl17 (by decide) in_J13 q501 (gfR_spec hv1) dJ12_ensureCapacityInternal_1 ?_
  obtain ⟨v2, hv2, hB⟩ := gB1_some hB
  refine gw_alen hv2 dJ12_ensureCapacityInternal_4 ?_
  refine gw_aload_n 0 rfl dJ12_ensureCapacityInternal_5 ?_
  obtain ⟨v3, hv3, hB⟩ := gB1_some hB
  refine gw_getf (C := RJ13) (T := TJ13) (N := 4) (k := 1) gcl17 (by decide) in_J13 q502 (gfI_spec hv3) dJ12_ensureCapacityInternal_6 ?_
  refine gw_ishr dJ12_ensureCapacityInternal_9 ?_
  refine gw_istore_n (L' := [(2, vI (v2 >>> (v3 &&& 31))), (0, vR l0), (1, vI l1)]) (Nat.le_of_ble_eq_true rfl) rfl dJ12_ensureCapacityInternal_10 ?_
  refine gw_iload_n 2 rfl dJ12_ensureCapacityInternal_11 ?_
  refine gw_iload_n 0 rfl dJ12_ensureCapacityInternal_12 ?_
  refine gw_isub dJ12_ensureCapacityInternal_13 ?_
  refine gw_if_le (tgt := 38) dJ12_ensureCapacityInternal_14 (by decide) (fun hcnd => ?_) (fun hcnd => ?_)
  · rw [if_pos hcnd] at hB
    exact gw_sub [] rfl (w_J12_ensureCapacityInternal_38   _ hB)
  · rw [if_neg hcnd] at hB
    refine gw_aload_n 1 rfl dJ12_ensureCapacityInternal_17 ?_
    refine gw_aload_n 1 rfl dJ12_ensureCapacityInternal_18 ?_
    obtain ⟨v4, hv4, hB⟩ := gB1_some hB
    refine gw_getf (C := RJ13) (T := TJ13) (N := 4) (k := 0) gcl17 (by decide) in_J13 q501 (gfR_spec hv4) dJ12_ensureCapacityInternal_19 ?_
    refine gw_aload_n 1 rfl dJ12_ensureCapacityInternal_22 ?_
    refine gw_iload_n 2 rfl dJ12_ensureCapacityInternal_23 ?_
    obtain ⟨u0, hu7, hB⟩ := gB1_some hB
    obtain ⟨v6, s5, hv6, hB⟩ := gB2_some hB
    refine gw_callP (C := "java/lang/StringBuilder") (y := yJ12_newCapacity) (lw_meth q535) q127 q532 q534 (lw_t q485) q533 (lw_t q3109) hdS_J12_newCapacity gcl17 hu7 (As := [vI l1]) (rest := [vR v4, vR l0]) (m_J12_newCapacity _ _ _ _ _ hv6) (Nat.le_of_ble_eq_true rfl) (Nat.le_of_ble_eq_true rfl) rfl (Nat.le_of_ble_eq_true rfl) dJ12_ensureCapacityInternal_24 (gCont_i ?_)
    refine gw_aload_n 1 rfl dJ12_ensureCapacityInternal_27 ?_
    obtain ⟨v8, hv8, hB⟩ := gB1_some hB
    refine gw_getf (C := RJ13) (T := TJ13) (N := 4) (k := 1) gcl17 (by decide) in_J13 q502 (gfI_spec hv8) dJ12_ensureCapacityInternal_28 ?_
    refine gw_ishl dJ12_ensureCapacityInternal_31 ?_
    obtain ⟨v10, s9, hv10, hB⟩ := gB2_some hB
    refine gw_callS (y := yJ15_copyOf) (lw_S q547 q548 q130 q549) hdS_J15_copyOf (As := [vR v4, vI (v6 <<< (v8 &&& 31))]) (rest := [vR l0]) (m_J15_copyOf _ _ _ _ _ hv10) (Nat.le_of_ble_eq_true rfl) (Nat.le_of_ble_eq_true rfl) rfl (Nat.le_of_ble_eq_true rfl) dJ12_ensureCapacityInternal_32 (gCont_i ?_)
    obtain ⟨s11, hs11, hB⟩ := gB1_some hB
    refine gw_putf (C := RJ13) (T := TJ13) (N := 4) (k := 0) tyJ13 tyJ13_ok nmJ13 gcl17 (by decide) in_J13 q501 rfl (tyJ13_ok 0 (by decide)) (gNF_a _ _) hs11 dJ12_ensureCapacityInternal_35 ?_
    exact gw_sub [] rfl (w_J12_ensureCapacityInternal_38   _ hB)
noncomputable def f_J12_ensureCapacityInternal (κ : gK) (F : Nat) (a0 : Option Nat) (a1 : Int32) (s : gS) : Option (Unit × gS) := f_J12_ensureCapacityInternal_0 κ F a0 a1 s
theorem m_J12_ensureCapacityInternal {E : gE} {F : Nat} (a0 : Option Nat) (a1 : Int32) (s : gS) (r : Unit) (s' : gS) (h : f_J12_ensureCapacityInternal (gk E) F a0 a1 s = some (r, s')) : gCT E 3 yJ12_ensureCapacityInternal (ws_ yJ12_ensureCapacityInternal cJ12_ensureCapacityInternal 3 none) [vR a0, vI a1] s (.inl none) s' := by
  refine gCT_of2 (fun h => absurd h (by decide)) (plainFor_of_name (by decide)) (Nat.le_of_ble_eq_true rfl) ?_
  exact gw_sub [0, 1] rfl (w_J12_ensureCapacityInternal_0 _ _ _ h)
def dkwJ4_coder_0 : List UInt8 := [178, 0, 38, 153, 0, 10, 42, 180, 0, 15, 167, 0, 4, 4, 172]
abbrev dktJ4_coder_0 : List UInt8 := dkwJ4_coder_0 ++ []
theorem dksJ4_coder_0 : cJ4_coder.data.toList.drop 0 = dktJ4_coder_0 := by decide +kernel
theorem dJ4_coder_0 : decode cJ4_coder 0 = .ok (.getstatic 38, 3) := dk_178 0 38 (dk_at dksJ4_coder_0 0 rfl rfl)
theorem dJ4_coder_3 : decode cJ4_coder 3 = .ok (.ifCond .eq 10, 3) := dk_153 0 10 (dk_at dksJ4_coder_0 3 rfl rfl)
theorem dJ4_coder_6 : decode cJ4_coder 6 = .ok (.aload_n 0, 1) := dk_42 (dk_at dksJ4_coder_0 6 rfl rfl)
theorem dJ4_coder_7 : decode cJ4_coder 7 = .ok (.getfield 15, 3) := dk_180 0 15 (dk_at dksJ4_coder_0 7 rfl rfl)
theorem dJ4_coder_10 : decode cJ4_coder 10 = .ok (.goto 4, 3) := dk_167 0 4 (dk_at dksJ4_coder_0 10 rfl rfl)
theorem dJ4_coder_13 : decode cJ4_coder 13 = .ok (.iconst 1, 1) := dk_4 (dk_at dksJ4_coder_0 13 rfl rfl)
theorem dJ4_coder_14 : decode cJ4_coder 14 = .ok (.ireturn, 1) := dk_172 (dk_at dksJ4_coder_0 14 rfl rfl)
/-! java/lang/String.coder()B -/
abbrev M_J4_coder (z0 n0 : Nat) (s' : gS) : gM := (RJ4, cJ4_coder, 1, (some FieldType.byte), "coder", [], 1, z0, n0, s'.2.1, s'.2.2)
abbrev W_J4_coder (E : gE) (z0 n0 : Nat) (r : Int32) (s' : gS) (pc : Nat) (L : List (Nat × gV)) (st : List gV) (s : gS) : Prop := gW E (M_J4_coder z0 n0 s') (gQm E (M_J4_coder z0 n0 s') (.inl (some (vI r))) s') pc L st s
noncomputable def f_J4_coder_14 (κ : gK) (F : Nat)  (t0 : Int32) (s : gS) : Option (Int32 × gS) :=
  gB1 (gok .byte t0) fun _ => some (t0, s)
set_option maxHeartbeats 4000000 in
theorem w_J4_coder_14 {E : gE} {F z0 n0 : Nat} {r : Int32} {s' : gS}   : ∀  (t0 : Int32) (s : gS), f_J4_coder_14 (gk E) F  t0 s = some (r, s') → W_J4_coder E z0 n0 r s' 14 [] [vI t0] s := by
  intro t0 s hB
  unfold f_J4_coder_14 at hB
  obtain ⟨u, hu, hB⟩ := gB1_some hB
  obtain ⟨rfl, rfl⟩ := Prod.mk.inj (Option.some.inj hB)
  exact gw_zret rfl hu rfl rfl dJ4_coder_14
noncomputable def f_J4_coder_0 (κ : gK) (F : Nat)  (l0 : Option Nat) (s : gS) : Option (Int32 × gS) :=
  if (1 : Int32) = 0 then
    f_J4_coder_14 κ F  (1 : Int32) s
  else
    gB1 (gfI s l0 16 1) fun v1 =>
    f_J4_coder_14 κ F  v1 s
set_option maxHeartbeats 4000000 in
theorem w_J4_coder_0 {E : gE} {F z0 n0 : Nat} {r : Int32} {s' : gS}   : ∀ (l0 : Option Nat)  (s : gS), f_J4_coder_0 (gk E) F  l0 s = some (r, s') → W_J4_coder E z0 n0 r s' 0 [(0, vR l0)] [] s := by
  intro l0 s hB
  unfold f_J4_coder_0 at hB
  refine gw_getsi (v := (1 : Int32)) (by decide) q374 dJ4_coder_0 ?_
  refine gw_if_eq (tgt := 13) dJ4_coder_3 (by decide) (fun hcnd => ?_) (fun hcnd => ?_)
  · rw [if_pos hcnd] at hB
    refine gw_iconst (v := (1 : Int32)) (by decide) dJ4_coder_13 ?_
    exact gw_sub [] rfl (w_J4_coder_14  _ _ hB)
  · rw [if_neg hcnd] at hB
    refine gw_aload_n 0 rfl dJ4_coder_6 ?_
    obtain ⟨v1, hv1, hB⟩ := gB1_some hB
    refine gw_getf (C := RJ4) (T := TJ4) (N := 4) (k := 1) gcl16 (by decide) in_J4 q732 (gfI_spec hv1) dJ4_coder_7 ?_
    refine gw_goto (tgt := 14) dJ4_coder_10 (by decide) ?_
    exact gw_sub [] rfl (w_J4_coder_14  _ _ hB)
noncomputable def f_J4_coder (κ : gK) (F : Nat) (a0 : Option Nat) (s : gS) : Option (Int32 × gS) := f_J4_coder_0 κ F a0 s
theorem m_J4_coder {E : gE} {F : Nat} (a0 : Option Nat) (s : gS) (r : Int32) (s' : gS) (h : f_J4_coder (gk E) F a0 s = some (r, s')) : gCT E 1 yJ4_coder (ws_ yJ4_coder cJ4_coder 1 (some FieldType.byte)) [vR a0] s (.inl (some (vI r))) s' := by
  refine gCT_of2 (fun h => absurd h (by decide)) (plainFor_of_name (by decide)) (Nat.le_of_ble_eq_true rfl) ?_
  exact gw_sub [0] rfl (w_J4_coder_0 _ _ h)
def dkwJ4_length_0 : List UInt8 := [42, 180, 0, 9, 190, 42, 182, 1, 79, 122, 172]
abbrev dktJ4_length_0 : List UInt8 := dkwJ4_length_0 ++ []
theorem dksJ4_length_0 : cJ4_length.data.toList.drop 0 = dktJ4_length_0 := by decide +kernel
theorem dJ4_length_0 : decode cJ4_length 0 = .ok (.aload_n 0, 1) := dk_42 (dk_at dksJ4_length_0 0 rfl rfl)
theorem dJ4_length_1 : decode cJ4_length 1 = .ok (.getfield 9, 3) := dk_180 0 9 (dk_at dksJ4_length_0 1 rfl rfl)
theorem dJ4_length_4 : decode cJ4_length 4 = .ok (.arraylength, 1) := dk_190 (dk_at dksJ4_length_0 4 rfl rfl)
theorem dJ4_length_5 : decode cJ4_length 5 = .ok (.aload_n 0, 1) := dk_42 (dk_at dksJ4_length_0 5 rfl rfl)
theorem dJ4_length_6 : decode cJ4_length 6 = .ok (.invokevirtual 335, 3) := dk_182 1 79 (dk_at dksJ4_length_0 6 rfl rfl)
theorem dJ4_length_9 : decode cJ4_length 9 = .ok (.ishr, 1) := dk_122 (dk_at dksJ4_length_0 9 rfl rfl)
theorem dJ4_length_10 : decode cJ4_length 10 = .ok (.ireturn, 1) := dk_172 (dk_at dksJ4_length_0 10 rfl rfl)
/-! java/lang/String.length()I -/
abbrev M_J4_length (z0 n0 : Nat) (s' : gS) : gM := (RJ4, cJ4_length, 1, (some FieldType.int), "length", [], 2, z0, n0, s'.2.1, s'.2.2)
abbrev W_J4_length (E : gE) (z0 n0 : Nat) (r : Int32) (s' : gS) (pc : Nat) (L : List (Nat × gV)) (st : List gV) (s : gS) : Prop := gW E (M_J4_length z0 n0 s') (gQm E (M_J4_length z0 n0 s') (.inl (some (vI r))) s') pc L st s
noncomputable def f_J4_length_0 (κ : gK) (F : Nat)  (l0 : Option Nat) (s : gS) : Option (Int32 × gS) :=
  gB1 (gfR s l0 16 0) fun v1 =>
  gB1 (gal s v1) fun v2 =>
  gB1 (gck s l0 16) fun _ =>
  gB2 (f_J4_coder κ F l0  s) fun v4 s3 =>
  some ((v2 >>> (v4 &&& 31)), s3)
set_option maxHeartbeats 4000000 in
theorem w_J4_length_0 {E : gE} {F z0 n0 : Nat} {r : Int32} {s' : gS}   : ∀ (l0 : Option Nat)  (s : gS), f_J4_length_0 (gk E) F  l0 s = some (r, s') → W_J4_length E z0 n0 r s' 0 [(0, vR l0)] [] s := by
  intro l0 s hB
  unfold f_J4_length_0 at hB
  refine gw_aload_n 0 rfl dJ4_length_0 ?_
  obtain ⟨v1, hv1, hB⟩ := gB1_some hB
  refine gw_getf (C := RJ4) (T := TJ4) (N := 4) (k := 0) gcl16 (by decide) in_J4 q731 (gfR_spec hv1) dJ4_length_1 ?_
  obtain ⟨v2, hv2, hB⟩ := gB1_some hB
  refine gw_alen hv2 dJ4_length_4 ?_
  refine gw_aload_n 0 rfl dJ4_length_5 ?_
  obtain ⟨u0, hu5, hB⟩ := gB1_some hB
  obtain ⟨v4, s3, hv4, hB⟩ := gB2_some hB
  refine gw_callV (y := yJ4_coder) (lw_V q589 q590 q591 q119 q592) hdV_J4_coder gcl16 hu5 (As := []) (rest := [vI v2]) (m_J4_coder _ _ _ _ hv4) (Nat.le_of_ble_eq_true rfl) (Nat.le_of_ble_eq_true rfl) rfl (Nat.le_of_ble_eq_true rfl) dJ4_length_6 (gCont_i ?_)
  refine gw_ishr dJ4_length_9 ?_
  obtain ⟨rfl, rfl⟩ := Prod.mk.inj (Option.some.inj hB)
  exact gw_iret rfl rfl rfl dJ4_length_10
noncomputable def f_J4_length (κ : gK) (F : Nat) (a0 : Option Nat) (s : gS) : Option (Int32 × gS) := f_J4_length_0 κ F a0 s
theorem m_J4_length {E : gE} {F : Nat} (a0 : Option Nat) (s : gS) (r : Int32) (s' : gS) (h : f_J4_length (gk E) F a0 s = some (r, s')) : gCT E 2 yJ4_length (ws_ yJ4_length cJ4_length 1 (some FieldType.int)) [vR a0] s (.inl (some (vI r))) s' := by
  refine gCT_of2 (fun h => absurd h (by decide)) (plainFor_of_name (by decide)) (Nat.le_of_ble_eq_true rfl) ?_
  exact gw_sub [0] rfl (w_J4_length_0 _ _ h)
def dkwJ5_inflate_0 : List UInt8 := [42, 27, 44, 29, 21, 4, 184, 0, 240, 177]
abbrev dktJ5_inflate_0 : List UInt8 := dkwJ5_inflate_0 ++ []
theorem dksJ5_inflate_0 : cJ5_inflate.data.toList.drop 0 = dktJ5_inflate_0 := by decide +kernel
theorem dJ5_inflate_0 : decode cJ5_inflate 0 = .ok (.aload_n 0, 1) := dk_42 (dk_at dksJ5_inflate_0 0 rfl rfl)
theorem dJ5_inflate_1 : decode cJ5_inflate 1 = .ok (.iload_n 1, 1) := dk_27 (dk_at dksJ5_inflate_0 1 rfl rfl)
theorem dJ5_inflate_2 : decode cJ5_inflate 2 = .ok (.aload_n 2, 1) := dk_44 (dk_at dksJ5_inflate_0 2 rfl rfl)
theorem dJ5_inflate_3 : decode cJ5_inflate 3 = .ok (.iload_n 3, 1) := dk_29 (dk_at dksJ5_inflate_0 3 rfl rfl)
theorem dJ5_inflate_4 : decode cJ5_inflate 4 = .ok (.iload 4, 2) := dk_21 4 (dk_at dksJ5_inflate_0 4 rfl rfl)
theorem dJ5_inflate_6 : decode cJ5_inflate 6 = .ok (.invokestatic 240, 3) := dk_184 0 240 (dk_at dksJ5_inflate_0 6 rfl rfl)
theorem dJ5_inflate_9 : decode cJ5_inflate 9 = .ok (.return_, 1) := dk_177 (dk_at dksJ5_inflate_0 9 rfl rfl)
/-! java/lang/StringLatin1.inflate([BI[BII)V -/
abbrev M_J5_inflate (z0 n0 : Nat) (s' : gS) : gM := (RJ5, cJ5_inflate, 5, none, "inflate", [], 1, z0, n0, s'.2.1, s'.2.2)
abbrev W_J5_inflate (E : gE) (z0 n0 : Nat) (r : Unit) (s' : gS) (pc : Nat) (L : List (Nat × gV)) (st : List gV) (s : gS) : Prop := gW E (M_J5_inflate z0 n0 s') (gQm E (M_J5_inflate z0 n0 s') (.inl none) s') pc L st s
noncomputable def f_J5_inflate_0 (κ : gK) (F : Nat)  (l0 : Option Nat) (l1 : Int32) (l2 : Option Nat) (l3 : Int32) (l4 : Int32) (s : gS) : Option (Unit × gS) :=
  none
set_option maxHeartbeats 4000000 in
theorem w_J5_inflate_0 {E : gE} {F z0 n0 : Nat} {r : Unit} {s' : gS}   : ∀ (l0 : Option Nat) (l1 : Int32) (l2 : Option Nat) (l3 : Int32) (l4 : Int32)  (s : gS), f_J5_inflate_0 (gk E) F  l0 l1 l2 l3 l4 s = some (r, s') → W_J5_inflate E z0 n0 r s' 0 [(0, vR l0), (1, vI l1), (2, vR l2), (3, vI l3), (4, vI l4)] [] s := by
  intro l0 l1 l2 l3 l4 s hB
  unfold f_J5_inflate_0 at hB
  refine gw_aload_n 0 rfl dJ5_inflate_0 ?_
  refine gw_iload_n 1 rfl dJ5_inflate_1 ?_
  refine gw_aload_n 2 rfl dJ5_inflate_2 ?_
  refine gw_iload_n 3 rfl dJ5_inflate_3 ?_
  refine gw_iload 4 rfl dJ5_inflate_4 ?_
  cases hB
noncomputable def f_J5_inflate (κ : gK) (F : Nat) (a1 : Option Nat) (a2 : Int32) (a3 : Option Nat) (a4 : Int32) (a5 : Int32) (s : gS) : Option (Unit × gS) := f_J5_inflate_0 κ F a1 a2 a3 a4 a5 s
theorem m_J5_inflate {E : gE} {F : Nat} (a1 : Option Nat) (a2 : Int32) (a3 : Option Nat) (a4 : Int32) (a5 : Int32) (s : gS) (r : Unit) (s' : gS) (h : f_J5_inflate (gk E) F a1 a2 a3 a4 a5 s = some (r, s')) : gCT E 1 yJ5_inflate (ws_ yJ5_inflate cJ5_inflate 5 none) [vR a1, vI a2, vR a3, vI a4, vI a5] s (.inl none) s' := by
  refine gCT_of2 (fun h => absurd h (by decide)) (plainFor_of_name (by decide)) (Nat.le_of_ble_eq_true rfl) ?_
  exact gw_sub [0, 1, 2, 3, 4] rfl (w_J5_inflate_0 _ _ _ _ _ _ h)
def dkwJ4_getBytes_1 : List UInt8 := [184, 0, 212, 167, 0, 18, 42, 180, 0, 9, 3, 43, 28, 42, 180, 0, 9, 190, 184, 0, 106, 177]
abbrev dktJ4_getBytes_1 : List UInt8 := dkwJ4_getBytes_1 ++ []
def dkwJ4_getBytes_0 : List UInt8 := [42, 182, 1, 79, 29, 160, 0, 23, 42, 180, 0, 9, 3, 43, 28, 29, 120, 42, 180, 0, 9, 190]
abbrev dktJ4_getBytes_0 : List UInt8 := dkwJ4_getBytes_0 ++ dktJ4_getBytes_1
theorem dksJ4_getBytes_0 : cJ4_getBytes.data.toList.drop 0 = dktJ4_getBytes_0 := by decide +kernel
theorem dksJ4_getBytes_1 : cJ4_getBytes.data.toList.drop 22 = dktJ4_getBytes_1 := dk_seg dksJ4_getBytes_0 22 rfl rfl
theorem dJ4_getBytes_0 : decode cJ4_getBytes 0 = .ok (.aload_n 0, 1) := dk_42 (dk_at dksJ4_getBytes_0 0 rfl rfl)
theorem dJ4_getBytes_1 : decode cJ4_getBytes 1 = .ok (.invokevirtual 335, 3) := dk_182 1 79 (dk_at dksJ4_getBytes_0 1 rfl rfl)
theorem dJ4_getBytes_4 : decode cJ4_getBytes 4 = .ok (.iload_n 3, 1) := dk_29 (dk_at dksJ4_getBytes_0 4 rfl rfl)
theorem dJ4_getBytes_5 : decode cJ4_getBytes 5 = .ok (.if_icmp .ne 23, 3) := dk_160 0 23 (dk_at dksJ4_getBytes_0 5 rfl rfl)
theorem dJ4_getBytes_8 : decode cJ4_getBytes 8 = .ok (.aload_n 0, 1) := dk_42 (dk_at dksJ4_getBytes_0 8 rfl rfl)
theorem dJ4_getBytes_9 : decode cJ4_getBytes 9 = .ok (.getfield 9, 3) := dk_180 0 9 (dk_at dksJ4_getBytes_0 9 rfl rfl)
theorem dJ4_getBytes_12 : decode cJ4_getBytes 12 = .ok (.iconst 0, 1) := dk_3 (dk_at dksJ4_getBytes_0 12 rfl rfl)
theorem dJ4_getBytes_13 : decode cJ4_getBytes 13 = .ok (.aload_n 1, 1) := dk_43 (dk_at dksJ4_getBytes_0 13 rfl rfl)
theorem dJ4_getBytes_14 : decode cJ4_getBytes 14 = .ok (.iload_n 2, 1) := dk_28 (dk_at dksJ4_getBytes_0 14 rfl rfl)
theorem dJ4_getBytes_15 : decode cJ4_getBytes 15 = .ok (.iload_n 3, 1) := dk_29 (dk_at dksJ4_getBytes_0 15 rfl rfl)
theorem dJ4_getBytes_16 : decode cJ4_getBytes 16 = .ok (.ishl, 1) := dk_120 (dk_at dksJ4_getBytes_0 16 rfl rfl)
theorem dJ4_getBytes_17 : decode cJ4_getBytes 17 = .ok (.aload_n 0, 1) := dk_42 (dk_at dksJ4_getBytes_0 17 rfl rfl)
theorem dJ4_getBytes_18 : decode cJ4_getBytes 18 = .ok (.getfield 9, 3) := dk_180 0 9 (dk_at dksJ4_getBytes_0 18 rfl rfl)
theorem dJ4_getBytes_21 : decode cJ4_getBytes 21 = .ok (.arraylength, 1) := dk_190 (dk_at dksJ4_getBytes_0 21 rfl rfl)
theorem dJ4_getBytes_22 : decode cJ4_getBytes 22 = .ok (.invokestatic 212, 3) := dk_184 0 212 (dk_at dksJ4_getBytes_1 0 rfl rfl)
theorem dJ4_getBytes_25 : decode cJ4_getBytes 25 = .ok (.goto 18, 3) := dk_167 0 18 (dk_at dksJ4_getBytes_1 3 rfl rfl)
theorem dJ4_getBytes_28 : decode cJ4_getBytes 28 = .ok (.aload_n 0, 1) := dk_42 (dk_at dksJ4_getBytes_1 6 rfl rfl)
theorem dJ4_getBytes_29 : decode cJ4_getBytes 29 = .ok (.getfield 9, 3) := dk_180 0 9 (dk_at dksJ4_getBytes_1 7 rfl rfl)
theorem dJ4_getBytes_32 : decode cJ4_getBytes 32 = .ok (.iconst 0, 1) := dk_3 (dk_at dksJ4_getBytes_1 10 rfl rfl)
theorem dJ4_getBytes_33 : decode cJ4_getBytes 33 = .ok (.aload_n 1, 1) := dk_43 (dk_at dksJ4_getBytes_1 11 rfl rfl)
theorem dJ4_getBytes_34 : decode cJ4_getBytes 34 = .ok (.iload_n 2, 1) := dk_28 (dk_at dksJ4_getBytes_1 12 rfl rfl)
theorem dJ4_getBytes_35 : decode cJ4_getBytes 35 = .ok (.aload_n 0, 1) := dk_42 (dk_at dksJ4_getBytes_1 13 rfl rfl)
theorem dJ4_getBytes_36 : decode cJ4_getBytes 36 = .ok (.getfield 9, 3) := dk_180 0 9 (dk_at dksJ4_getBytes_1 14 rfl rfl)
theorem dJ4_getBytes_39 : decode cJ4_getBytes 39 = .ok (.arraylength, 1) := dk_190 (dk_at dksJ4_getBytes_1 17 rfl rfl)
theorem dJ4_getBytes_40 : decode cJ4_getBytes 40 = .ok (.invokestatic 106, 3) := dk_184 0 106 (dk_at dksJ4_getBytes_1 18 rfl rfl)
theorem dJ4_getBytes_43 : decode cJ4_getBytes 43 = .ok (.return_, 1) := dk_177 (dk_at dksJ4_getBytes_1 21 rfl rfl)
/-! java/lang/String.getBytes([BIB)V -/
abbrev M_J4_getBytes (z0 n0 : Nat) (s' : gS) : gM := (RJ4, cJ4_getBytes, 4, none, "getBytes", [], 2, z0, n0, s'.2.1, s'.2.2)
abbrev W_J4_getBytes (E : gE) (z0 n0 : Nat) (r : Unit) (s' : gS) (pc : Nat) (L : List (Nat × gV)) (st : List gV) (s : gS) : Prop := gW E (M_J4_getBytes z0 n0 s') (gQm E (M_J4_getBytes z0 n0 s') (.inl none) s') pc L st s
noncomputable def f_J4_getBytes_43 (κ : gK) (F : Nat)   (s : gS) : Option (Unit × gS) :=
  some ((), s)
set_option maxHeartbeats 4000000 in
theorem w_J4_getBytes_43 {E : gE} {F z0 n0 : Nat} {r : Unit} {s' : gS}   : ∀   (s : gS), f_J4_getBytes_43 (gk E) F   s = some (r, s') → W_J4_getBytes E z0 n0 r s' 43 [] [] s := by
  intro  s hB
  unfold f_J4_getBytes_43 at hB
  obtain ⟨rfl, rfl⟩ := Prod.mk.inj (Option.some.inj hB)
  exact gw_vret rfl rfl rfl dJ4_getBytes_43
noncomputable def f_J4_getBytes_0 (κ : gK) (F : Nat)  (l0 : Option Nat) (l1 : Option Nat) (l2 : Int32) (l3 : Int32) (s : gS) : Option (Unit × gS) :=
  gB1 (gck s l0 16) fun _ =>
  gB2 (f_J4_coder κ F l0  s) fun v2 s1 =>
  if v2 = l3 then
    gB1 (gfR s1 l0 16 0) fun v9 =>
    gB1 (gfR s1 l0 16 0) fun v10 =>
    gB1 (gal s1 v10) fun v11 =>
    gB1 (gcpR κ s1 v9 (0 : Int32) l1 (l2 <<< (l3 &&& 31)) v11) fun s12 =>
    f_J4_getBytes_43 κ F  s12
  else
    gB1 (gfR s1 l0 16 0) fun v4 =>
    gB1 (gfR s1 l0 16 0) fun v5 =>
    gB1 (gal s1 v5) fun v6 =>
    gB2 (f_J5_inflate κ F v4 (0 : Int32) l1 l2 v6 s1) fun v8 s7 =>
    f_J4_getBytes_43 κ F  s7
set_option maxHeartbeats 4000000 in
theorem w_J4_getBytes_0 {E : gE} {F z0 n0 : Nat} {r : Unit} {s' : gS}   : ∀ (l0 : Option Nat) (l1 : Option Nat) (l2 : Int32) (l3 : Int32)  (s : gS), f_J4_getBytes_0 (gk E) F  l0 l1 l2 l3 s = some (r, s') → W_J4_getBytes E z0 n0 r s' 0 [(0, vR l0), (1, vR l1), (2, vI l2), (3, vI l3)] [] s := by
  intro l0 l1 l2 l3 s hB
  unfold f_J4_getBytes_0 at hB
  refine gw_aload_n 0 rfl dJ4_getBytes_0 ?_
  obtain ⟨u0, hu3, hB⟩ := gB1_some hB
  obtain ⟨v2, s1, hv2, hB⟩ := gB2_some hB
  refine gw_callV (y := yJ4_coder) (lw_V q589 q590 q591 q119 q592) hdV_J4_coder gcl16 hu3 (As := []) (rest := []) (m_J4_coder _ _ _ _ hv2) (Nat.le_of_ble_eq_true rfl) (Nat.le_of_ble_eq_true rfl) rfl (Nat.le_of_ble_eq_true rfl) dJ4_getBytes_1 (gCont_i ?_)
  refine gw_iload_n 3 rfl dJ4_getBytes_4 ?_
  refine gw_icmp_ne (tgt := 28) dJ4_getBytes_5 (by decide) (fun hcnd => ?_) (fun hcnd => ?_)
  · rw [if_neg hcnd] at hB
    refine gw_aload_n 0 rfl dJ4_getBytes_28 ?_
    obtain ⟨v4, hv4, hB⟩ := gB1_some hB
    refine gw_getf (C := RJ4) (T := TJ4) (N := 4) (k := 0) gcl16 (by decide) in_J4 q731 (gfR_spec hv4) dJ4_getBytes_29 ?_
    refine gw_iconst (v := (0 : Int32)) (by decide) dJ4_getBytes_32 ?_
    refine gw_aload_n 1 rfl dJ4_getBytes_33 ?_
    refine gw_iload_n 2 rfl dJ4_getBytes_34 ?_
    refine gw_aload_n 0 rfl dJ4_getBytes_35 ?_
    obtain ⟨v5, hv5, hB⟩ := gB1_some hB
    refine gw_getf (C := RJ4) (T := TJ4) (N := 4) (k := 0) gcl16 (by decide) in_J4 q731 (gfR_spec hv5) dJ4_getBytes_36 ?_
    obtain ⟨v6, hv6, hB⟩ := gB1_some hB
    refine gw_alen hv6 dJ4_getBytes_39 ?_
    obtain ⟨v8, s7, hv8, hB⟩ := gB2_some hB
    refine gw_callS (y := yJ5_inflate) (lw_S q626 q607 q120 q608) hdS_J5_inflate (As := [vR v4, vI (0 : Int32), vR l1, vI l2, vI v6]) (rest := []) (m_J5_inflate _ _ _ _ _ _ _ _ hv8) (Nat.le_of_ble_eq_true rfl) (Nat.le_of_ble_eq_true rfl) rfl (Nat.le_of_ble_eq_true rfl) dJ4_getBytes_40 (gCont_v ?_)
    exact gw_sub [] rfl (w_J4_getBytes_43   _ hB)
  · rw [if_pos hcnd] at hB
    refine gw_aload_n 0 rfl dJ4_getBytes_8 ?_
    obtain ⟨v9, hv9, hB⟩ := gB1_some hB
    refine gw_getf (C := RJ4) (T := TJ4) (N := 4) (k := 0) gcl16 (by decide) in_J4 q731 (gfR_spec hv9) dJ4_getBytes_9 ?_
    refine gw_iconst (v := (0 : Int32)) (by decide) dJ4_getBytes_12 ?_
    refine gw_aload_n 1 rfl dJ4_getBytes_13 ?_
    refine gw_iload_n 2 rfl dJ4_getBytes_14 ?_
    refine gw_iload_n 3 rfl dJ4_getBytes_15 ?_
    refine gw_ishl dJ4_getBytes_16 ?_
    refine gw_aload_n 0 rfl dJ4_getBytes_17 ?_
    obtain ⟨v10, hv10, hB⟩ := gB1_some hB
    refine gw_getf (C := RJ4) (T := TJ4) (N := 4) (k := 0) gcl16 (by decide) in_J4 q731 (gfR_spec hv10) dJ4_getBytes_18 ?_
    obtain ⟨v11, hv11, hB⟩ := gB1_some hB
    refine gw_alen hv11 dJ4_getBytes_21 ?_
    obtain ⟨s12, hs12, hB⟩ := gB1_some hB
    refine gw_copyR q625 q562 q561 q118 (Nat.le_of_ble_eq_true rfl) (Nat.le_of_ble_eq_true rfl) hs12 dJ4_getBytes_22 ?_
    refine gw_goto (tgt := 43) dJ4_getBytes_25 (by decide) ?_
    exact gw_sub [] rfl (w_J4_getBytes_43   _ hB)
noncomputable def f_J4_getBytes (κ : gK) (F : Nat) (a0 : Option Nat) (a1 : Option Nat) (a2 : Int32) (a3 : Int32) (s : gS) : Option (Unit × gS) := f_J4_getBytes_0 κ F a0 a1 a2 a3 s
theorem m_J4_getBytes {E : gE} {F : Nat} (a0 : Option Nat) (a1 : Option Nat) (a2 : Int32) (a3 : Int32) (s : gS) (r : Unit) (s' : gS) (h : f_J4_getBytes (gk E) F a0 a1 a2 a3 s = some (r, s')) : gCT E 2 yJ4_getBytes (ws_ yJ4_getBytes cJ4_getBytes 4 none) [vR a0, vR a1, vI a2, vI a3] s (.inl none) s' := by
  refine gCT_of2 (fun h => absurd h (by decide)) (plainFor_of_name (by decide)) (Nat.le_of_ble_eq_true rfl) ?_
  exact gw_sub [0, 1, 2, 3] rfl (w_J4_getBytes_0 _ _ _ _ _ h)
