set_option maxRecDepth 100000
def dkwJ29_isNaN_0 : List UInt8 := [34, 34, 149, 153, 0, 7, 4, 167, 0, 4, 3, 172]
abbrev dktJ29_isNaN_0 : List UInt8 := dkwJ29_isNaN_0 ++ []
theorem dksJ29_isNaN_0 : cJ29_isNaN.data.toList.drop 0 = dktJ29_isNaN_0 := by decide +kernel
theorem dJ29_isNaN_0 : decode cJ29_isNaN 0 = .ok (.fload_n 0, 1) := dk_34 (dk_at dksJ29_isNaN_0 0 rfl rfl)
theorem dJ29_isNaN_1 : decode cJ29_isNaN 1 = .ok (.fload_n 0, 1) := dk_34 (dk_at dksJ29_isNaN_0 1 rfl rfl)
theorem dJ29_isNaN_2 : decode cJ29_isNaN 2 = .ok (.fcmp .l, 1) := dk_149 (dk_at dksJ29_isNaN_0 2 rfl rfl)
theorem dJ29_isNaN_3 : decode cJ29_isNaN 3 = .ok (.ifCond .eq 7, 3) := dk_153 0 7 (dk_at dksJ29_isNaN_0 3 rfl rfl)
theorem dJ29_isNaN_6 : decode cJ29_isNaN 6 = .ok (.iconst 1, 1) := dk_4 (dk_at dksJ29_isNaN_0 6 rfl rfl)
theorem dJ29_isNaN_7 : decode cJ29_isNaN 7 = .ok (.goto 4, 3) := dk_167 0 4 (dk_at dksJ29_isNaN_0 7 rfl rfl)
theorem dJ29_isNaN_10 : decode cJ29_isNaN 10 = .ok (.iconst 0, 1) := dk_3 (dk_at dksJ29_isNaN_0 10 rfl rfl)
theorem dJ29_isNaN_11 : decode cJ29_isNaN 11 = .ok (.ireturn, 1) := dk_172 (dk_at dksJ29_isNaN_0 11 rfl rfl)
/-! java/lang/Float.isNaN(F)Z -/
abbrev M_J29_isNaN (z0 n0 : Nat) (s' : gS) : gM := (RJ29, cJ29_isNaN, 1, (some FieldType.boolean), "isNaN", [], 1, z0, n0, s'.2.1, s'.2.2)
abbrev W_J29_isNaN (E : gE) (z0 n0 : Nat) (r : Int32) (s' : gS) (pc : Nat) (L : List (Nat × gV)) (st : List gV) (s : gS) : Prop := gW E (M_J29_isNaN z0 n0 s') (gQm E (M_J29_isNaN z0 n0 s') (.inl (some (vI r))) s') pc L st s
noncomputable def f_J29_isNaN_11 (κ : gK) (F : Nat)  (t0 : Int32) (s : gS) : Option (Int32 × gS) :=
  gB1 (gok .boolean t0) fun _ => some (t0, s)
set_option maxHeartbeats 4000000 in
theorem w_J29_isNaN_11 {E : gE} {F z0 n0 : Nat} {r : Int32} {s' : gS}   : ∀  (t0 : Int32) (s : gS), f_J29_isNaN_11 (gk E) F  t0 s = some (r, s') → W_J29_isNaN E z0 n0 r s' 11 [] [vI t0] s := by
  intro t0 s hB
  unfold f_J29_isNaN_11 at hB
  obtain ⟨u, hu, hB⟩ := gB1_some hB
  obtain ⟨rfl, rfl⟩ := Prod.mk.inj (Option.some.inj hB)
  exact gw_zret rfl hu rfl rfl dJ29_isNaN_11
noncomputable def f_J29_isNaN_0 (κ : gK) (F : Nat)  (l0 : UInt32) (s : gS) : Option (Int32 × gS) :=
  if (Op.cmpValue (FP.fcmp l0 l0) .l) = 0 then
    f_J29_isNaN_11 κ F  (0 : Int32) s
  else
    f_J29_isNaN_11 κ F  (1 : Int32) s
set_option maxHeartbeats 4000000 in
theorem w_J29_isNaN_0 {E : gE} {F z0 n0 : Nat} {r : Int32} {s' : gS}   : ∀ (l0 : UInt32)  (s : gS), f_J29_isNaN_0 (gk E) F  l0 s = some (r, s') → W_J29_isNaN E z0 n0 r s' 0 [(0, vF l0)] [] s := by
  intro l0 s hB
  unfold f_J29_isNaN_0 at hB
  refine gw_fload_n 0 rfl dJ29_isNaN_0 ?_
  refine gw_fload_n 0 rfl dJ29_isNaN_1 ?_
  refine gw_fcmp dJ29_isNaN_2 ?_
  refine gw_if_eq (tgt := 10) dJ29_isNaN_3 (by decide) (fun hcnd => ?_) (fun hcnd => ?_)
  · rw [if_pos hcnd] at hB
    refine gw_iconst (v := (0 : Int32)) (by decide) dJ29_isNaN_10 ?_
    exact gw_sub [] rfl (w_J29_isNaN_11  _ _ hB)
  · rw [if_neg hcnd] at hB
    refine gw_iconst (v := (1 : Int32)) (by decide) dJ29_isNaN_6 ?_
    refine gw_goto (tgt := 11) dJ29_isNaN_7 (by decide) ?_
    exact gw_sub [] rfl (w_J29_isNaN_11  _ _ hB)
noncomputable def f_J29_isNaN (κ : gK) (F : Nat) (a1 : UInt32) (s : gS) : Option (Int32 × gS) := f_J29_isNaN_0 κ F a1 s
theorem m_J29_isNaN {E : gE} {F : Nat} (a1 : UInt32) (s : gS) (r : Int32) (s' : gS) (h : f_J29_isNaN (gk E) F a1 s = some (r, s')) : gCT E 1 yJ29_isNaN (ws_ yJ29_isNaN cJ29_isNaN 1 (some FieldType.boolean)) [vF a1] s (.inl (some (vI r))) s' := by
  refine gCT_of2 (fun h => absurd h (by decide)) (by decide +kernel) (Nat.le_of_ble_eq_true rfl) ?_
  exact gw_sub [0] rfl (w_J29_isNaN_0 _ _ h)
def dkwJ17_numberOfLeadingZeros_3 : List UInt8 := [5, 124, 59, 27, 26, 4, 124, 100, 172]
abbrev dktJ17_numberOfLeadingZeros_3 : List UInt8 := dkwJ17_numberOfLeadingZeros_3 ++ []
def dkwJ17_numberOfLeadingZeros_2 : List UInt8 := [124, 59, 26, 16, 16, 161, 0, 10, 132, 1, 252, 26, 7, 124, 59, 26, 7, 161, 0, 10, 132, 1, 254, 26]
abbrev dktJ17_numberOfLeadingZeros_2 : List UInt8 := dkwJ17_numberOfLeadingZeros_2 ++ dktJ17_numberOfLeadingZeros_3
def dkwJ17_numberOfLeadingZeros_1 : List UInt8 := [161, 0, 11, 132, 1, 240, 26, 16, 16, 124, 59, 26, 17, 1, 0, 161, 0, 11, 132, 1, 248, 26, 16, 8]
abbrev dktJ17_numberOfLeadingZeros_1 : List UInt8 := dkwJ17_numberOfLeadingZeros_1 ++ dktJ17_numberOfLeadingZeros_2
def dkwJ17_numberOfLeadingZeros_0 : List UInt8 := [26, 157, 0, 14, 26, 154, 0, 8, 16, 32, 167, 0, 4, 3, 172, 16, 31, 60, 26, 19, 1, 8]
abbrev dktJ17_numberOfLeadingZeros_0 : List UInt8 := dkwJ17_numberOfLeadingZeros_0 ++ dktJ17_numberOfLeadingZeros_1
theorem dksJ17_numberOfLeadingZeros_0 : cJ17_numberOfLeadingZeros.data.toList.drop 0 = dktJ17_numberOfLeadingZeros_0 := by decide +kernel
theorem dksJ17_numberOfLeadingZeros_1 : cJ17_numberOfLeadingZeros.data.toList.drop 22 = dktJ17_numberOfLeadingZeros_1 := dk_seg dksJ17_numberOfLeadingZeros_0 22 rfl rfl
theorem dksJ17_numberOfLeadingZeros_2 : cJ17_numberOfLeadingZeros.data.toList.drop 46 = dktJ17_numberOfLeadingZeros_2 := dk_seg dksJ17_numberOfLeadingZeros_1 24 rfl rfl
theorem dksJ17_numberOfLeadingZeros_3 : cJ17_numberOfLeadingZeros.data.toList.drop 70 = dktJ17_numberOfLeadingZeros_3 := dk_seg dksJ17_numberOfLeadingZeros_2 24 rfl rfl
theorem dJ17_numberOfLeadingZeros_0 : decode cJ17_numberOfLeadingZeros 0 = .ok (.iload_n 0, 1) := dk_26 (dk_at dksJ17_numberOfLeadingZeros_0 0 rfl rfl)
theorem dJ17_numberOfLeadingZeros_1 : decode cJ17_numberOfLeadingZeros 1 = .ok (.ifCond .gt 14, 3) := dk_157 0 14 (dk_at dksJ17_numberOfLeadingZeros_0 1 rfl rfl)
theorem dJ17_numberOfLeadingZeros_4 : decode cJ17_numberOfLeadingZeros 4 = .ok (.iload_n 0, 1) := dk_26 (dk_at dksJ17_numberOfLeadingZeros_0 4 rfl rfl)
theorem dJ17_numberOfLeadingZeros_5 : decode cJ17_numberOfLeadingZeros 5 = .ok (.ifCond .ne 8, 3) := dk_154 0 8 (dk_at dksJ17_numberOfLeadingZeros_0 5 rfl rfl)
theorem dJ17_numberOfLeadingZeros_8 : decode cJ17_numberOfLeadingZeros 8 = .ok (.bipush 32, 2) := dk_16 32 (dk_at dksJ17_numberOfLeadingZeros_0 8 rfl rfl)
theorem dJ17_numberOfLeadingZeros_10 : decode cJ17_numberOfLeadingZeros 10 = .ok (.goto 4, 3) := dk_167 0 4 (dk_at dksJ17_numberOfLeadingZeros_0 10 rfl rfl)
theorem dJ17_numberOfLeadingZeros_13 : decode cJ17_numberOfLeadingZeros 13 = .ok (.iconst 0, 1) := dk_3 (dk_at dksJ17_numberOfLeadingZeros_0 13 rfl rfl)
theorem dJ17_numberOfLeadingZeros_14 : decode cJ17_numberOfLeadingZeros 14 = .ok (.ireturn, 1) := dk_172 (dk_at dksJ17_numberOfLeadingZeros_0 14 rfl rfl)
theorem dJ17_numberOfLeadingZeros_15 : decode cJ17_numberOfLeadingZeros 15 = .ok (.bipush 31, 2) := dk_16 31 (dk_at dksJ17_numberOfLeadingZeros_0 15 rfl rfl)
theorem dJ17_numberOfLeadingZeros_17 : decode cJ17_numberOfLeadingZeros 17 = .ok (.istore_n 1, 1) := dk_60 (dk_at dksJ17_numberOfLeadingZeros_0 17 rfl rfl)
theorem dJ17_numberOfLeadingZeros_18 : decode cJ17_numberOfLeadingZeros 18 = .ok (.iload_n 0, 1) := dk_26 (dk_at dksJ17_numberOfLeadingZeros_0 18 rfl rfl)
theorem dJ17_numberOfLeadingZeros_19 : decode cJ17_numberOfLeadingZeros 19 = .ok (.ldc_w 264, 3) := dk_19 1 8 (dk_at dksJ17_numberOfLeadingZeros_0 19 rfl rfl)
theorem dJ17_numberOfLeadingZeros_22 : decode cJ17_numberOfLeadingZeros 22 = .ok (.if_icmp .lt 11, 3) := dk_161 0 11 (dk_at dksJ17_numberOfLeadingZeros_1 0 rfl rfl)
theorem dJ17_numberOfLeadingZeros_25 : decode cJ17_numberOfLeadingZeros 25 = .ok (.iinc 1 (-16), 3) := dk_132 1 240 (dk_at dksJ17_numberOfLeadingZeros_1 3 rfl rfl)
theorem dJ17_numberOfLeadingZeros_28 : decode cJ17_numberOfLeadingZeros 28 = .ok (.iload_n 0, 1) := dk_26 (dk_at dksJ17_numberOfLeadingZeros_1 6 rfl rfl)
theorem dJ17_numberOfLeadingZeros_29 : decode cJ17_numberOfLeadingZeros 29 = .ok (.bipush 16, 2) := dk_16 16 (dk_at dksJ17_numberOfLeadingZeros_1 7 rfl rfl)
theorem dJ17_numberOfLeadingZeros_31 : decode cJ17_numberOfLeadingZeros 31 = .ok (.iushr, 1) := dk_124 (dk_at dksJ17_numberOfLeadingZeros_1 9 rfl rfl)
theorem dJ17_numberOfLeadingZeros_32 : decode cJ17_numberOfLeadingZeros 32 = .ok (.istore_n 0, 1) := dk_59 (dk_at dksJ17_numberOfLeadingZeros_1 10 rfl rfl)
theorem dJ17_numberOfLeadingZeros_33 : decode cJ17_numberOfLeadingZeros 33 = .ok (.iload_n 0, 1) := dk_26 (dk_at dksJ17_numberOfLeadingZeros_1 11 rfl rfl)
theorem dJ17_numberOfLeadingZeros_34 : decode cJ17_numberOfLeadingZeros 34 = .ok (.sipush 256, 3) := dk_17 1 0 (dk_at dksJ17_numberOfLeadingZeros_1 12 rfl rfl)
theorem dJ17_numberOfLeadingZeros_37 : decode cJ17_numberOfLeadingZeros 37 = .ok (.if_icmp .lt 11, 3) := dk_161 0 11 (dk_at dksJ17_numberOfLeadingZeros_1 15 rfl rfl)
theorem dJ17_numberOfLeadingZeros_40 : decode cJ17_numberOfLeadingZeros 40 = .ok (.iinc 1 (-8), 3) := dk_132 1 248 (dk_at dksJ17_numberOfLeadingZeros_1 18 rfl rfl)
theorem dJ17_numberOfLeadingZeros_43 : decode cJ17_numberOfLeadingZeros 43 = .ok (.iload_n 0, 1) := dk_26 (dk_at dksJ17_numberOfLeadingZeros_1 21 rfl rfl)
theorem dJ17_numberOfLeadingZeros_44 : decode cJ17_numberOfLeadingZeros 44 = .ok (.bipush 8, 2) := dk_16 8 (dk_at dksJ17_numberOfLeadingZeros_1 22 rfl rfl)
theorem dJ17_numberOfLeadingZeros_46 : decode cJ17_numberOfLeadingZeros 46 = .ok (.iushr, 1) := dk_124 (dk_at dksJ17_numberOfLeadingZeros_2 0 rfl rfl)
theorem dJ17_numberOfLeadingZeros_47 : decode cJ17_numberOfLeadingZeros 47 = .ok (.istore_n 0, 1) := dk_59 (dk_at dksJ17_numberOfLeadingZeros_2 1 rfl rfl)
theorem dJ17_numberOfLeadingZeros_48 : decode cJ17_numberOfLeadingZeros 48 = .ok (.iload_n 0, 1) := dk_26 (dk_at dksJ17_numberOfLeadingZeros_2 2 rfl rfl)
theorem dJ17_numberOfLeadingZeros_49 : decode cJ17_numberOfLeadingZeros 49 = .ok (.bipush 16, 2) := dk_16 16 (dk_at dksJ17_numberOfLeadingZeros_2 3 rfl rfl)
theorem dJ17_numberOfLeadingZeros_51 : decode cJ17_numberOfLeadingZeros 51 = .ok (.if_icmp .lt 10, 3) := dk_161 0 10 (dk_at dksJ17_numberOfLeadingZeros_2 5 rfl rfl)
theorem dJ17_numberOfLeadingZeros_54 : decode cJ17_numberOfLeadingZeros 54 = .ok (.iinc 1 (-4), 3) := dk_132 1 252 (dk_at dksJ17_numberOfLeadingZeros_2 8 rfl rfl)
theorem dJ17_numberOfLeadingZeros_57 : decode cJ17_numberOfLeadingZeros 57 = .ok (.iload_n 0, 1) := dk_26 (dk_at dksJ17_numberOfLeadingZeros_2 11 rfl rfl)
theorem dJ17_numberOfLeadingZeros_58 : decode cJ17_numberOfLeadingZeros 58 = .ok (.iconst 4, 1) := dk_7 (dk_at dksJ17_numberOfLeadingZeros_2 12 rfl rfl)
theorem dJ17_numberOfLeadingZeros_59 : decode cJ17_numberOfLeadingZeros 59 = .ok (.iushr, 1) := dk_124 (dk_at dksJ17_numberOfLeadingZeros_2 13 rfl rfl)
theorem dJ17_numberOfLeadingZeros_60 : decode cJ17_numberOfLeadingZeros 60 = .ok (.istore_n 0, 1) := dk_59 (dk_at dksJ17_numberOfLeadingZeros_2 14 rfl rfl)
theorem dJ17_numberOfLeadingZeros_61 : decode cJ17_numberOfLeadingZeros 61 = .ok (.iload_n 0, 1) := dk_26 (dk_at dksJ17_numberOfLeadingZeros_2 15 rfl rfl)
theorem dJ17_numberOfLeadingZeros_62 : decode cJ17_numberOfLeadingZeros 62 = .ok (.iconst 4, 1) := dk_7 (dk_at dksJ17_numberOfLeadingZeros_2 16 rfl rfl)
theorem dJ17_numberOfLeadingZeros_63 : decode cJ17_numberOfLeadingZeros 63 = .ok (.if_icmp .lt 10, 3) := dk_161 0 10 (dk_at dksJ17_numberOfLeadingZeros_2 17 rfl rfl)
theorem dJ17_numberOfLeadingZeros_66 : decode cJ17_numberOfLeadingZeros 66 = .ok (.iinc 1 (-2), 3) := dk_132 1 254 (dk_at dksJ17_numberOfLeadingZeros_2 20 rfl rfl)
theorem dJ17_numberOfLeadingZeros_69 : decode cJ17_numberOfLeadingZeros 69 = .ok (.iload_n 0, 1) := dk_26 (dk_at dksJ17_numberOfLeadingZeros_2 23 rfl rfl)
theorem dJ17_numberOfLeadingZeros_70 : decode cJ17_numberOfLeadingZeros 70 = .ok (.iconst 2, 1) := dk_5 (dk_at dksJ17_numberOfLeadingZeros_3 0 rfl rfl)
theorem dJ17_numberOfLeadingZeros_71 : decode cJ17_numberOfLeadingZeros 71 = .ok (.iushr, 1) := dk_124 (dk_at dksJ17_numberOfLeadingZeros_3 1 rfl rfl)
theorem dJ17_numberOfLeadingZeros_72 : decode cJ17_numberOfLeadingZeros 72 = .ok (.istore_n 0, 1) := dk_59 (dk_at dksJ17_numberOfLeadingZeros_3 2 rfl rfl)
theorem dJ17_numberOfLeadingZeros_73 : decode cJ17_numberOfLeadingZeros 73 = .ok (.iload_n 1, 1) := dk_27 (dk_at dksJ17_numberOfLeadingZeros_3 3 rfl rfl)
theorem dJ17_numberOfLeadingZeros_74 : decode cJ17_numberOfLeadingZeros 74 = .ok (.iload_n 0, 1) := dk_26 (dk_at dksJ17_numberOfLeadingZeros_3 4 rfl rfl)
theorem dJ17_numberOfLeadingZeros_75 : decode cJ17_numberOfLeadingZeros 75 = .ok (.iconst 1, 1) := dk_4 (dk_at dksJ17_numberOfLeadingZeros_3 5 rfl rfl)
theorem dJ17_numberOfLeadingZeros_76 : decode cJ17_numberOfLeadingZeros 76 = .ok (.iushr, 1) := dk_124 (dk_at dksJ17_numberOfLeadingZeros_3 6 rfl rfl)
theorem dJ17_numberOfLeadingZeros_77 : decode cJ17_numberOfLeadingZeros 77 = .ok (.isub, 1) := dk_100 (dk_at dksJ17_numberOfLeadingZeros_3 7 rfl rfl)
theorem dJ17_numberOfLeadingZeros_78 : decode cJ17_numberOfLeadingZeros 78 = .ok (.ireturn, 1) := dk_172 (dk_at dksJ17_numberOfLeadingZeros_3 8 rfl rfl)
/-! java/lang/Integer.numberOfLeadingZeros(I)I -/
abbrev M_J17_numberOfLeadingZeros (z0 n0 : Nat) (s' : gS) : gM := (RJ17, cJ17_numberOfLeadingZeros, 2, (some FieldType.int), "numberOfLeadingZeros", [], 1, z0, n0, s'.2.1, s'.2.2)
abbrev W_J17_numberOfLeadingZeros (E : gE) (z0 n0 : Nat) (r : Int32) (s' : gS) (pc : Nat) (L : List (Nat × gV)) (st : List gV) (s : gS) : Prop := gW E (M_J17_numberOfLeadingZeros z0 n0 s') (gQm E (M_J17_numberOfLeadingZeros z0 n0 s') (.inl (some (vI r))) s') pc L st s
noncomputable def f_J17_numberOfLeadingZeros_14 (κ : gK) (F : Nat)  (t0 : Int32) (s : gS) : Option (Int32 × gS) :=
  some (t0, s)
set_option maxHeartbeats 4000000 in
theorem w_J17_numberOfLeadingZeros_14 {E : gE} {F z0 n0 : Nat} {r : Int32} {s' : gS}   : ∀  (t0 : Int32) (s : gS), f_J17_numberOfLeadingZeros_14 (gk E) F  t0 s = some (r, s') → W_J17_numberOfLeadingZeros E z0 n0 r s' 14 [] [vI t0] s := by
  intro t0 s hB
  unfold f_J17_numberOfLeadingZeros_14 at hB
  obtain ⟨rfl, rfl⟩ := Prod.mk.inj (Option.some.inj hB)
  exact gw_iret rfl rfl rfl dJ17_numberOfLeadingZeros_14
noncomputable def f_J17_numberOfLeadingZeros_73 (κ : gK) (F : Nat)  (l0 : Int32) (l1 : Int32) (s : gS) : Option (Int32 × gS) :=
  some ((l1 - ((l0.toUInt32 >>> ((1 : Int32).toUInt32 &&& Int32.toUInt32 31)).toInt32)), s)
set_option maxHeartbeats 4000000 in
theorem w_J17_numberOfLeadingZeros_73 {E : gE} {F z0 n0 : Nat} {r : Int32} {s' : gS}   : ∀ (l0 : Int32) (l1 : Int32)  (s : gS), f_J17_numberOfLeadingZeros_73 (gk E) F  l0 l1 s = some (r, s') → W_J17_numberOfLeadingZeros E z0 n0 r s' 73 [(0, vI l0), (1, vI l1)] [] s := by
  intro l0 l1 s hB
  unfold f_J17_numberOfLeadingZeros_73 at hB
  refine gw_iload_n 1 rfl dJ17_numberOfLeadingZeros_73 ?_
  refine gw_iload_n 0 rfl dJ17_numberOfLeadingZeros_74 ?_
  refine gw_iconst (v := (1 : Int32)) (by decide) dJ17_numberOfLeadingZeros_75 ?_
  refine gw_iushr dJ17_numberOfLeadingZeros_76 ?_
  refine gw_isub dJ17_numberOfLeadingZeros_77 ?_
  obtain ⟨rfl, rfl⟩ := Prod.mk.inj (Option.some.inj hB)
  exact gw_iret rfl rfl rfl dJ17_numberOfLeadingZeros_78
noncomputable def f_J17_numberOfLeadingZeros_61 (κ : gK) (F : Nat)  (l0 : Int32) (l1 : Int32) (s : gS) : Option (Int32 × gS) :=
  if l0 < (4 : Int32) then
    f_J17_numberOfLeadingZeros_73 κ F  l0 l1 s
  else
    f_J17_numberOfLeadingZeros_73 κ F  ((l0.toUInt32 >>> ((2 : Int32).toUInt32 &&& Int32.toUInt32 31)).toInt32) (l1 + (-2 : Int32)) s
set_option maxHeartbeats 4000000 in
theorem w_J17_numberOfLeadingZeros_61 {E : gE} {F z0 n0 : Nat} {r : Int32} {s' : gS}   : ∀ (l0 : Int32) (l1 : Int32)  (s : gS), f_J17_numberOfLeadingZeros_61 (gk E) F  l0 l1 s = some (r, s') → W_J17_numberOfLeadingZeros E z0 n0 r s' 61 [(0, vI l0), (1, vI l1)] [] s := by
  intro l0 l1 s hB
  unfold f_J17_numberOfLeadingZeros_61 at hB
  refine gw_iload_n 0 rfl dJ17_numberOfLeadingZeros_61 ?_
  refine gw_iconst (v := (4 : Int32)) (by decide) dJ17_numberOfLeadingZeros_62 ?_
  refine gw_icmp_lt (tgt := 73) dJ17_numberOfLeadingZeros_63 (by decide) (fun hcnd => ?_) (fun hcnd => ?_)
  · rw [if_pos hcnd] at hB
    exact gw_sub [0, 1] rfl (w_J17_numberOfLeadingZeros_73  _ _ _ hB)
  · rw [if_neg hcnd] at hB
    refine gw_iinc (w := (-2 : Int32)) (L' := [(1, vI (l1 + (-2 : Int32))), (0, vI l0)]) 1 rfl (by decide) (Nat.le_of_ble_eq_true rfl) rfl dJ17_numberOfLeadingZeros_66 ?_
    refine gw_iload_n 1 rfl dJ17_numberOfLeadingZeros_69 ?_
    refine gw_iconst (v := (2 : Int32)) (by decide) dJ17_numberOfLeadingZeros_70 ?_
    refine gw_iushr dJ17_numberOfLeadingZeros_71 ?_
    refine gw_istore_n (L' := [(0, vI ((l0.toUInt32 >>> ((2 : Int32).toUInt32 &&& Int32.toUInt32 31)).toInt32)), (1, vI (l1 + (-2 : Int32)))]) (Nat.le_of_ble_eq_true rfl) rfl dJ17_numberOfLeadingZeros_72 ?_
    exact gw_sub [0, 1] rfl (w_J17_numberOfLeadingZeros_73  _ _ _ hB)
noncomputable def f_J17_numberOfLeadingZeros_48 (κ : gK) (F : Nat)  (l0 : Int32) (l1 : Int32) (s : gS) : Option (Int32 × gS) :=
  if l0 < (16 : Int32) then
    f_J17_numberOfLeadingZeros_61 κ F  l0 l1 s
  else
    f_J17_numberOfLeadingZeros_61 κ F  ((l0.toUInt32 >>> ((4 : Int32).toUInt32 &&& Int32.toUInt32 31)).toInt32) (l1 + (-4 : Int32)) s
set_option maxHeartbeats 4000000 in
theorem w_J17_numberOfLeadingZeros_48 {E : gE} {F z0 n0 : Nat} {r : Int32} {s' : gS}   : ∀ (l0 : Int32) (l1 : Int32)  (s : gS), f_J17_numberOfLeadingZeros_48 (gk E) F  l0 l1 s = some (r, s') → W_J17_numberOfLeadingZeros E z0 n0 r s' 48 [(0, vI l0), (1, vI l1)] [] s := by
  intro l0 l1 s hB
  unfold f_J17_numberOfLeadingZeros_48 at hB
  refine gw_iload_n 0 rfl dJ17_numberOfLeadingZeros_48 ?_
  refine gw_bipush (v := (16 : Int32)) (by decide) dJ17_numberOfLeadingZeros_49 ?_
  refine gw_icmp_lt (tgt := 61) dJ17_numberOfLeadingZeros_51 (by decide) (fun hcnd => ?_) (fun hcnd => ?_)
  · rw [if_pos hcnd] at hB
    exact gw_sub [0, 1] rfl (w_J17_numberOfLeadingZeros_61  _ _ _ hB)
  · rw [if_neg hcnd] at hB
    refine gw_iinc (w := (-4 : Int32)) (L' := [(1, vI (l1 + (-4 : Int32))), (0, vI l0)]) 1 rfl (by decide) (Nat.le_of_ble_eq_true rfl) rfl dJ17_numberOfLeadingZeros_54 ?_
    refine gw_iload_n 1 rfl dJ17_numberOfLeadingZeros_57 ?_
    refine gw_iconst (v := (4 : Int32)) (by decide) dJ17_numberOfLeadingZeros_58 ?_
    refine gw_iushr dJ17_numberOfLeadingZeros_59 ?_
    refine gw_istore_n (L' := [(0, vI ((l0.toUInt32 >>> ((4 : Int32).toUInt32 &&& Int32.toUInt32 31)).toInt32)), (1, vI (l1 + (-4 : Int32)))]) (Nat.le_of_ble_eq_true rfl) rfl dJ17_numberOfLeadingZeros_60 ?_
    exact gw_sub [0, 1] rfl (w_J17_numberOfLeadingZeros_61  _ _ _ hB)
noncomputable def f_J17_numberOfLeadingZeros_33 (κ : gK) (F : Nat)  (l0 : Int32) (l1 : Int32) (s : gS) : Option (Int32 × gS) :=
  if l0 < (256 : Int32) then
    f_J17_numberOfLeadingZeros_48 κ F  l0 l1 s
  else
    f_J17_numberOfLeadingZeros_48 κ F  ((l0.toUInt32 >>> ((8 : Int32).toUInt32 &&& Int32.toUInt32 31)).toInt32) (l1 + (-8 : Int32)) s
set_option maxHeartbeats 4000000 in
theorem w_J17_numberOfLeadingZeros_33 {E : gE} {F z0 n0 : Nat} {r : Int32} {s' : gS}   : ∀ (l0 : Int32) (l1 : Int32)  (s : gS), f_J17_numberOfLeadingZeros_33 (gk E) F  l0 l1 s = some (r, s') → W_J17_numberOfLeadingZeros E z0 n0 r s' 33 [(0, vI l0), (1, vI l1)] [] s := by
  intro l0 l1 s hB
  unfold f_J17_numberOfLeadingZeros_33 at hB
  refine gw_iload_n 0 rfl dJ17_numberOfLeadingZeros_33 ?_
  refine gw_sipush (v := (256 : Int32)) (by decide) dJ17_numberOfLeadingZeros_34 ?_
  refine gw_icmp_lt (tgt := 48) dJ17_numberOfLeadingZeros_37 (by decide) (fun hcnd => ?_) (fun hcnd => ?_)
  · rw [if_pos hcnd] at hB
    exact gw_sub [0, 1] rfl (w_J17_numberOfLeadingZeros_48  _ _ _ hB)
  · rw [if_neg hcnd] at hB
    refine gw_iinc (w := (-8 : Int32)) (L' := [(1, vI (l1 + (-8 : Int32))), (0, vI l0)]) 1 rfl (by decide) (Nat.le_of_ble_eq_true rfl) rfl dJ17_numberOfLeadingZeros_40 ?_
    refine gw_iload_n 1 rfl dJ17_numberOfLeadingZeros_43 ?_
    refine gw_bipush (v := (8 : Int32)) (by decide) dJ17_numberOfLeadingZeros_44 ?_
    refine gw_iushr dJ17_numberOfLeadingZeros_46 ?_
    refine gw_istore_n (L' := [(0, vI ((l0.toUInt32 >>> ((8 : Int32).toUInt32 &&& Int32.toUInt32 31)).toInt32)), (1, vI (l1 + (-8 : Int32)))]) (Nat.le_of_ble_eq_true rfl) rfl dJ17_numberOfLeadingZeros_47 ?_
    exact gw_sub [0, 1] rfl (w_J17_numberOfLeadingZeros_48  _ _ _ hB)
noncomputable def f_J17_numberOfLeadingZeros_0 (κ : gK) (F : Nat)  (l0 : Int32) (s : gS) : Option (Int32 × gS) :=
  if 0 < l0 then
    if l0 < (65536 : Int32) then
      f_J17_numberOfLeadingZeros_33 κ F  l0 (31 : Int32) s
    else
      f_J17_numberOfLeadingZeros_33 κ F  ((l0.toUInt32 >>> ((16 : Int32).toUInt32 &&& Int32.toUInt32 31)).toInt32) ((31 : Int32) + (-16 : Int32)) s
  else
    if l0 = 0 then
      f_J17_numberOfLeadingZeros_14 κ F  (32 : Int32) s
    else
      f_J17_numberOfLeadingZeros_14 κ F  (0 : Int32) s
set_option maxHeartbeats 4000000 in
theorem w_J17_numberOfLeadingZeros_0 {E : gE} {F z0 n0 : Nat} {r : Int32} {s' : gS}   : ∀ (l0 : Int32)  (s : gS), f_J17_numberOfLeadingZeros_0 (gk E) F  l0 s = some (r, s') → W_J17_numberOfLeadingZeros E z0 n0 r s' 0 [(0, vI l0)] [] s := by
  intro l0 s hB
  unfold f_J17_numberOfLeadingZeros_0 at hB
  refine gw_iload_n 0 rfl dJ17_numberOfLeadingZeros_0 ?_
  refine gw_if_gt (tgt := 15) dJ17_numberOfLeadingZeros_1 (by decide) (fun hcnd => ?_) (fun hcnd => ?_)
  · rw [if_pos hcnd] at hB
    refine gw_bipush (v := (31 : Int32)) (by decide) dJ17_numberOfLeadingZeros_15 ?_
    refine gw_istore_n (L' := [(1, vI (31 : Int32)), (0, vI l0)]) (Nat.le_of_ble_eq_true rfl) rfl dJ17_numberOfLeadingZeros_17 ?_
    refine gw_iload_n 1 rfl dJ17_numberOfLeadingZeros_18 ?_
    refine gw_ldc_w (65536 : Int32) q1014 dJ17_numberOfLeadingZeros_19 ?_
    refine gw_icmp_lt (tgt := 33) dJ17_numberOfLeadingZeros_22 (by decide) (fun hcnd => ?_) (fun hcnd => ?_)
    · rw [if_pos hcnd] at hB
      exact gw_sub [1, 0] rfl (w_J17_numberOfLeadingZeros_33  _ _ _ hB)
    · rw [if_neg hcnd] at hB
      refine gw_iinc (w := (-16 : Int32)) (L' := [(1, vI ((31 : Int32) + (-16 : Int32))), (0, vI l0)]) 0 rfl (by decide) (Nat.le_of_ble_eq_true rfl) rfl dJ17_numberOfLeadingZeros_25 ?_
      refine gw_iload_n 1 rfl dJ17_numberOfLeadingZeros_28 ?_
      refine gw_bipush (v := (16 : Int32)) (by decide) dJ17_numberOfLeadingZeros_29 ?_
      refine gw_iushr dJ17_numberOfLeadingZeros_31 ?_
      refine gw_istore_n (L' := [(0, vI ((l0.toUInt32 >>> ((16 : Int32).toUInt32 &&& Int32.toUInt32 31)).toInt32)), (1, vI ((31 : Int32) + (-16 : Int32)))]) (Nat.le_of_ble_eq_true rfl) rfl dJ17_numberOfLeadingZeros_32 ?_
      exact gw_sub [0, 1] rfl (w_J17_numberOfLeadingZeros_33  _ _ _ hB)
  · rw [if_neg hcnd] at hB
    refine gw_iload_n 0 rfl dJ17_numberOfLeadingZeros_4 ?_
    refine gw_if_ne (tgt := 13) dJ17_numberOfLeadingZeros_5 (by decide) (fun hcnd => ?_) (fun hcnd => ?_)
    · rw [if_neg hcnd] at hB
      refine gw_iconst (v := (0 : Int32)) (by decide) dJ17_numberOfLeadingZeros_13 ?_
      exact gw_sub [] rfl (w_J17_numberOfLeadingZeros_14  _ _ hB)
    · rw [if_pos hcnd] at hB
      refine gw_bipush (v := (32 : Int32)) (by decide) dJ17_numberOfLeadingZeros_8 ?_
      refine gw_goto (tgt := 14) dJ17_numberOfLeadingZeros_10 (by decide) ?_
      exact gw_sub [] rfl (w_J17_numberOfLeadingZeros_14  _ _ hB)
noncomputable def f_J17_numberOfLeadingZeros (κ : gK) (F : Nat) (a1 : Int32) (s : gS) : Option (Int32 × gS) := f_J17_numberOfLeadingZeros_0 κ F a1 s
theorem m_J17_numberOfLeadingZeros {E : gE} {F : Nat} (a1 : Int32) (s : gS) (r : Int32) (s' : gS) (h : f_J17_numberOfLeadingZeros (gk E) F a1 s = some (r, s')) : gCT E 1 yJ17_numberOfLeadingZeros (ws_ yJ17_numberOfLeadingZeros cJ17_numberOfLeadingZeros 2 (some FieldType.int)) [vI a1] s (.inl (some (vI r))) s' := by
  refine gCT_of2 (fun h => absurd h (by decide)) (plainFor_of_name (by decide)) (Nat.le_of_ble_eq_true rfl) ?_
  exact gw_sub [0] rfl (w_J17_numberOfLeadingZeros_0 _ _ h)
def dkwJ1_tableSizeFor_1 : List UInt8 := [18, 42, 167, 0, 6, 27, 4, 96, 172]
abbrev dktJ1_tableSizeFor_1 : List UInt8 := dkwJ1_tableSizeFor_1 ++ []
def dkwJ1_tableSizeFor_0 : List UInt8 := [2, 26, 4, 100, 184, 0, 34, 124, 60, 27, 156, 0, 7, 4, 167, 0, 17, 27, 18, 42, 161, 0, 8]
abbrev dktJ1_tableSizeFor_0 : List UInt8 := dkwJ1_tableSizeFor_0 ++ dktJ1_tableSizeFor_1
theorem dksJ1_tableSizeFor_0 : cJ1_tableSizeFor.data.toList.drop 0 = dktJ1_tableSizeFor_0 := by decide +kernel
theorem dksJ1_tableSizeFor_1 : cJ1_tableSizeFor.data.toList.drop 23 = dktJ1_tableSizeFor_1 := dk_seg dksJ1_tableSizeFor_0 23 rfl rfl
theorem dJ1_tableSizeFor_0 : decode cJ1_tableSizeFor 0 = .ok (.iconst (-1), 1) := dk_2 (dk_at dksJ1_tableSizeFor_0 0 rfl rfl)
theorem dJ1_tableSizeFor_1 : decode cJ1_tableSizeFor 1 = .ok (.iload_n 0, 1) := dk_26 (dk_at dksJ1_tableSizeFor_0 1 rfl rfl)
theorem dJ1_tableSizeFor_2 : decode cJ1_tableSizeFor 2 = .ok (.iconst 1, 1) := dk_4 (dk_at dksJ1_tableSizeFor_0 2 rfl rfl)
theorem dJ1_tableSizeFor_3 : decode cJ1_tableSizeFor 3 = .ok (.isub, 1) := dk_100 (dk_at dksJ1_tableSizeFor_0 3 rfl rfl)
theorem dJ1_tableSizeFor_4 : decode cJ1_tableSizeFor 4 = .ok (.invokestatic 34, 3) := dk_184 0 34 (dk_at dksJ1_tableSizeFor_0 4 rfl rfl)
theorem dJ1_tableSizeFor_7 : decode cJ1_tableSizeFor 7 = .ok (.iushr, 1) := dk_124 (dk_at dksJ1_tableSizeFor_0 7 rfl rfl)
theorem dJ1_tableSizeFor_8 : decode cJ1_tableSizeFor 8 = .ok (.istore_n 1, 1) := dk_60 (dk_at dksJ1_tableSizeFor_0 8 rfl rfl)
theorem dJ1_tableSizeFor_9 : decode cJ1_tableSizeFor 9 = .ok (.iload_n 1, 1) := dk_27 (dk_at dksJ1_tableSizeFor_0 9 rfl rfl)
theorem dJ1_tableSizeFor_10 : decode cJ1_tableSizeFor 10 = .ok (.ifCond .ge 7, 3) := dk_156 0 7 (dk_at dksJ1_tableSizeFor_0 10 rfl rfl)
theorem dJ1_tableSizeFor_13 : decode cJ1_tableSizeFor 13 = .ok (.iconst 1, 1) := dk_4 (dk_at dksJ1_tableSizeFor_0 13 rfl rfl)
theorem dJ1_tableSizeFor_14 : decode cJ1_tableSizeFor 14 = .ok (.goto 17, 3) := dk_167 0 17 (dk_at dksJ1_tableSizeFor_0 14 rfl rfl)
theorem dJ1_tableSizeFor_17 : decode cJ1_tableSizeFor 17 = .ok (.iload_n 1, 1) := dk_27 (dk_at dksJ1_tableSizeFor_0 17 rfl rfl)
theorem dJ1_tableSizeFor_18 : decode cJ1_tableSizeFor 18 = .ok (.ldc 42, 2) := dk_18 42 (dk_at dksJ1_tableSizeFor_0 18 rfl rfl)
theorem dJ1_tableSizeFor_20 : decode cJ1_tableSizeFor 20 = .ok (.if_icmp .lt 8, 3) := dk_161 0 8 (dk_at dksJ1_tableSizeFor_0 20 rfl rfl)
theorem dJ1_tableSizeFor_23 : decode cJ1_tableSizeFor 23 = .ok (.ldc 42, 2) := dk_18 42 (dk_at dksJ1_tableSizeFor_1 0 rfl rfl)
theorem dJ1_tableSizeFor_25 : decode cJ1_tableSizeFor 25 = .ok (.goto 6, 3) := dk_167 0 6 (dk_at dksJ1_tableSizeFor_1 2 rfl rfl)
theorem dJ1_tableSizeFor_28 : decode cJ1_tableSizeFor 28 = .ok (.iload_n 1, 1) := dk_27 (dk_at dksJ1_tableSizeFor_1 5 rfl rfl)
theorem dJ1_tableSizeFor_29 : decode cJ1_tableSizeFor 29 = .ok (.iconst 1, 1) := dk_4 (dk_at dksJ1_tableSizeFor_1 6 rfl rfl)
theorem dJ1_tableSizeFor_30 : decode cJ1_tableSizeFor 30 = .ok (.iadd, 1) := dk_96 (dk_at dksJ1_tableSizeFor_1 7 rfl rfl)
theorem dJ1_tableSizeFor_31 : decode cJ1_tableSizeFor 31 = .ok (.ireturn, 1) := dk_172 (dk_at dksJ1_tableSizeFor_1 8 rfl rfl)
/-! java/util/HashMap.tableSizeFor(I)I -/
abbrev M_J1_tableSizeFor (z0 n0 : Nat) (s' : gS) : gM := (RJ1, cJ1_tableSizeFor, 2, (some FieldType.int), "tableSizeFor", [], 2, z0, n0, s'.2.1, s'.2.2)
abbrev W_J1_tableSizeFor (E : gE) (z0 n0 : Nat) (r : Int32) (s' : gS) (pc : Nat) (L : List (Nat × gV)) (st : List gV) (s : gS) : Prop := gW E (M_J1_tableSizeFor z0 n0 s') (gQm E (M_J1_tableSizeFor z0 n0 s') (.inl (some (vI r))) s') pc L st s
noncomputable def f_J1_tableSizeFor_31 (κ : gK) (F : Nat)  (t0 : Int32) (s : gS) : Option (Int32 × gS) :=
  some (t0, s)
set_option maxHeartbeats 4000000 in
theorem w_J1_tableSizeFor_31 {E : gE} {F z0 n0 : Nat} {r : Int32} {s' : gS}   : ∀  (t0 : Int32) (s : gS), f_J1_tableSizeFor_31 (gk E) F  t0 s = some (r, s') → W_J1_tableSizeFor E z0 n0 r s' 31 [] [vI t0] s := by
  intro t0 s hB
  unfold f_J1_tableSizeFor_31 at hB
  obtain ⟨rfl, rfl⟩ := Prod.mk.inj (Option.some.inj hB)
  exact gw_iret rfl rfl rfl dJ1_tableSizeFor_31
noncomputable def f_J1_tableSizeFor_0 (κ : gK) (F : Nat)  (l0 : Int32) (s : gS) : Option (Int32 × gS) :=
  gB2 (f_J17_numberOfLeadingZeros κ F (l0 - (1 : Int32)) s) fun v2 s1 =>
  if 0 ≤ (((-1 : Int32).toUInt32 >>> (v2.toUInt32 &&& Int32.toUInt32 31)).toInt32) then
    if (((-1 : Int32).toUInt32 >>> (v2.toUInt32 &&& Int32.toUInt32 31)).toInt32) < (1073741824 : Int32) then
      f_J1_tableSizeFor_31 κ F  ((((-1 : Int32).toUInt32 >>> (v2.toUInt32 &&& Int32.toUInt32 31)).toInt32) + (1 : Int32)) s1
    else
      f_J1_tableSizeFor_31 κ F  (1073741824 : Int32) s1
  else
    f_J1_tableSizeFor_31 κ F  (1 : Int32) s1
set_option maxHeartbeats 4000000 in
theorem w_J1_tableSizeFor_0 {E : gE} {F z0 n0 : Nat} {r : Int32} {s' : gS}   : ∀ (l0 : Int32)  (s : gS), f_J1_tableSizeFor_0 (gk E) F  l0 s = some (r, s') → W_J1_tableSizeFor E z0 n0 r s' 0 [(0, vI l0)] [] s := by
  intro l0 s hB
  unfold f_J1_tableSizeFor_0 at hB
  refine gw_iconst (v := (-1 : Int32)) (by decide) dJ1_tableSizeFor_0 ?_
  refine gw_iload_n 0 rfl dJ1_tableSizeFor_1 ?_
  refine gw_iconst (v := (1 : Int32)) (by decide) dJ1_tableSizeFor_2 ?_
  refine gw_isub dJ1_tableSizeFor_3 ?_
  obtain ⟨v2, s1, hv2, hB⟩ := gB2_some hB
  refine gw_callS (y := yJ17_numberOfLeadingZeros) (lw_S q1780 q1012 q133 q1013) hdS_J17_numberOfLeadingZeros (As := [vI (l0 - (1 : Int32))]) (rest := [vI (-1 : Int32)]) (m_J17_numberOfLeadingZeros _ _ _ _ hv2) (Nat.le_of_ble_eq_true rfl) (Nat.le_of_ble_eq_true rfl) rfl (Nat.le_of_ble_eq_true rfl) dJ1_tableSizeFor_4 (gCont_i ?_)
  refine gw_iushr dJ1_tableSizeFor_7 ?_
  refine gw_istore_n (L' := [(1, vI (((-1 : Int32).toUInt32 >>> (v2.toUInt32 &&& Int32.toUInt32 31)).toInt32)), (0, vI l0)]) (Nat.le_of_ble_eq_true rfl) rfl dJ1_tableSizeFor_8 ?_
  refine gw_iload_n 0 rfl dJ1_tableSizeFor_9 ?_
  refine gw_if_ge (tgt := 17) dJ1_tableSizeFor_10 (by decide) (fun hcnd => ?_) (fun hcnd => ?_)
  · rw [if_pos hcnd] at hB
    refine gw_iload_n 0 rfl dJ1_tableSizeFor_17 ?_
    refine gw_ldc (1073741824 : Int32) q764 dJ1_tableSizeFor_18 ?_
    refine gw_icmp_lt (tgt := 28) dJ1_tableSizeFor_20 (by decide) (fun hcnd => ?_) (fun hcnd => ?_)
    · rw [if_pos hcnd] at hB
      refine gw_iload_n 0 rfl dJ1_tableSizeFor_28 ?_
      refine gw_iconst (v := (1 : Int32)) (by decide) dJ1_tableSizeFor_29 ?_
      refine gw_iadd dJ1_tableSizeFor_30 ?_
      exact gw_sub [] rfl (w_J1_tableSizeFor_31  _ _ hB)
    · rw [if_neg hcnd] at hB
      refine gw_ldc (1073741824 : Int32) q764 dJ1_tableSizeFor_23 ?_
      refine gw_goto (tgt := 31) dJ1_tableSizeFor_25 (by decide) ?_
      exact gw_sub [] rfl (w_J1_tableSizeFor_31  _ _ hB)
  · rw [if_neg hcnd] at hB
    refine gw_iconst (v := (1 : Int32)) (by decide) dJ1_tableSizeFor_13 ?_
    refine gw_goto (tgt := 31) dJ1_tableSizeFor_14 (by decide) ?_
    exact gw_sub [] rfl (w_J1_tableSizeFor_31  _ _ hB)
noncomputable def f_J1_tableSizeFor (κ : gK) (F : Nat) (a1 : Int32) (s : gS) : Option (Int32 × gS) := f_J1_tableSizeFor_0 κ F a1 s
theorem m_J1_tableSizeFor {E : gE} {F : Nat} (a1 : Int32) (s : gS) (r : Int32) (s' : gS) (h : f_J1_tableSizeFor (gk E) F a1 s = some (r, s')) : gCT E 2 yJ1_tableSizeFor (ws_ yJ1_tableSizeFor cJ1_tableSizeFor 2 (some FieldType.int)) [vI a1] s (.inl (some (vI r))) s' := by
  refine gCT_of2 (fun h => absurd h (by decide)) (plainFor_of_name (by decide)) (Nat.le_of_ble_eq_true rfl) ?_
  exact gw_sub [0] rfl (w_J1_tableSizeFor_0 _ _ h)
def dkwJ1_init_2_4 : List UInt8 := [181, 0, 88, 177]
abbrev dktJ1_init_2_4 : List UInt8 := dkwJ1_init_2_4 ++ []
def dkwJ1_init_2_3 : List UInt8 := [182, 0, 56, 36, 182, 0, 78, 182, 0, 63, 183, 0, 67, 191, 42, 36, 181, 0, 81, 42, 27, 184, 0, 85]
abbrev dktJ1_init_2_3 : List UInt8 := dkwJ1_init_2_3 ++ dktJ1_init_2_4
def dkwJ1_init_2_2 : List UInt8 := [158, 0, 10, 36, 184, 0, 70, 153, 0, 30, 187, 0, 49, 89, 187, 0, 51, 89, 183, 0, 53, 18, 76]
abbrev dktJ1_init_2_2 : List UInt8 := dkwJ1_init_2_2 ++ dktJ1_init_2_3
def dkwJ1_init_2_1 : List UInt8 := [27, 182, 0, 60, 182, 0, 63, 183, 0, 67, 191, 27, 18, 42, 164, 0, 6, 18, 42, 60, 36, 11, 150]
abbrev dktJ1_init_2_1 : List UInt8 := dkwJ1_init_2_1 ++ dktJ1_init_2_2
def dkwJ1_init_2_0 : List UInt8 := [42, 183, 0, 43, 27, 156, 0, 30, 187, 0, 49, 89, 187, 0, 51, 89, 183, 0, 53, 18, 54, 182, 0, 56]
abbrev dktJ1_init_2_0 : List UInt8 := dkwJ1_init_2_0 ++ dktJ1_init_2_1
theorem dksJ1_init_2_0 : cJ1_init_2.data.toList.drop 0 = dktJ1_init_2_0 := by decide +kernel
theorem dksJ1_init_2_1 : cJ1_init_2.data.toList.drop 24 = dktJ1_init_2_1 := dk_seg dksJ1_init_2_0 24 rfl rfl
theorem dksJ1_init_2_2 : cJ1_init_2.data.toList.drop 47 = dktJ1_init_2_2 := dk_seg dksJ1_init_2_1 23 rfl rfl
theorem dksJ1_init_2_3 : cJ1_init_2.data.toList.drop 70 = dktJ1_init_2_3 := dk_seg dksJ1_init_2_2 23 rfl rfl
theorem dksJ1_init_2_4 : cJ1_init_2.data.toList.drop 94 = dktJ1_init_2_4 := dk_seg dksJ1_init_2_3 24 rfl rfl
theorem dJ1_init_2_0 : decode cJ1_init_2 0 = .ok (.aload_n 0, 1) := dk_42 (dk_at dksJ1_init_2_0 0 rfl rfl)
theorem dJ1_init_2_1 : decode cJ1_init_2 1 = .ok (.invokespecial 43, 3) := dk_183 0 43 (dk_at dksJ1_init_2_0 1 rfl rfl)
theorem dJ1_init_2_4 : decode cJ1_init_2 4 = .ok (.iload_n 1, 1) := dk_27 (dk_at dksJ1_init_2_0 4 rfl rfl)
theorem dJ1_init_2_5 : decode cJ1_init_2 5 = .ok (.ifCond .ge 30, 3) := dk_156 0 30 (dk_at dksJ1_init_2_0 5 rfl rfl)
theorem dJ1_init_2_8 : decode cJ1_init_2 8 = .ok (.new 49, 3) := dk_187 0 49 (dk_at dksJ1_init_2_0 8 rfl rfl)
theorem dJ1_init_2_11 : decode cJ1_init_2 11 = .ok (.dup, 1) := dk_89 (dk_at dksJ1_init_2_0 11 rfl rfl)
theorem dJ1_init_2_12 : decode cJ1_init_2 12 = .ok (.new 51, 3) := dk_187 0 51 (dk_at dksJ1_init_2_0 12 rfl rfl)
theorem dJ1_init_2_15 : decode cJ1_init_2 15 = .ok (.dup, 1) := dk_89 (dk_at dksJ1_init_2_0 15 rfl rfl)
theorem dJ1_init_2_16 : decode cJ1_init_2 16 = .ok (.invokespecial 53, 3) := dk_183 0 53 (dk_at dksJ1_init_2_0 16 rfl rfl)
theorem dJ1_init_2_19 : decode cJ1_init_2 19 = .ok (.ldc 54, 2) := dk_18 54 (dk_at dksJ1_init_2_0 19 rfl rfl)
theorem dJ1_init_2_21 : decode cJ1_init_2 21 = .ok (.invokevirtual 56, 3) := dk_182 0 56 (dk_at dksJ1_init_2_0 21 rfl rfl)
theorem dJ1_init_2_24 : decode cJ1_init_2 24 = .ok (.iload_n 1, 1) := dk_27 (dk_at dksJ1_init_2_1 0 rfl rfl)
theorem dJ1_init_2_25 : decode cJ1_init_2 25 = .ok (.invokevirtual 60, 3) := dk_182 0 60 (dk_at dksJ1_init_2_1 1 rfl rfl)
theorem dJ1_init_2_28 : decode cJ1_init_2 28 = .ok (.invokevirtual 63, 3) := dk_182 0 63 (dk_at dksJ1_init_2_1 4 rfl rfl)
theorem dJ1_init_2_31 : decode cJ1_init_2 31 = .ok (.invokespecial 67, 3) := dk_183 0 67 (dk_at dksJ1_init_2_1 7 rfl rfl)
theorem dJ1_init_2_34 : decode cJ1_init_2 34 = .ok (.athrow, 1) := dk_191 (dk_at dksJ1_init_2_1 10 rfl rfl)
theorem dJ1_init_2_35 : decode cJ1_init_2 35 = .ok (.iload_n 1, 1) := dk_27 (dk_at dksJ1_init_2_1 11 rfl rfl)
theorem dJ1_init_2_36 : decode cJ1_init_2 36 = .ok (.ldc 42, 2) := dk_18 42 (dk_at dksJ1_init_2_1 12 rfl rfl)
theorem dJ1_init_2_38 : decode cJ1_init_2 38 = .ok (.if_icmp .le 6, 3) := dk_164 0 6 (dk_at dksJ1_init_2_1 14 rfl rfl)
theorem dJ1_init_2_41 : decode cJ1_init_2 41 = .ok (.ldc 42, 2) := dk_18 42 (dk_at dksJ1_init_2_1 17 rfl rfl)
theorem dJ1_init_2_43 : decode cJ1_init_2 43 = .ok (.istore_n 1, 1) := dk_60 (dk_at dksJ1_init_2_1 19 rfl rfl)
theorem dJ1_init_2_44 : decode cJ1_init_2 44 = .ok (.fload_n 2, 1) := dk_36 (dk_at dksJ1_init_2_1 20 rfl rfl)
theorem dJ1_init_2_45 : decode cJ1_init_2 45 = .ok (.fconst 0, 1) := dk_11 (dk_at dksJ1_init_2_1 21 rfl rfl)
theorem dJ1_init_2_46 : decode cJ1_init_2 46 = .ok (.fcmp .g, 1) := dk_150 (dk_at dksJ1_init_2_1 22 rfl rfl)
theorem dJ1_init_2_47 : decode cJ1_init_2 47 = .ok (.ifCond .le 10, 3) := dk_158 0 10 (dk_at dksJ1_init_2_2 0 rfl rfl)
theorem dJ1_init_2_50 : decode cJ1_init_2 50 = .ok (.fload_n 2, 1) := dk_36 (dk_at dksJ1_init_2_2 3 rfl rfl)
theorem dJ1_init_2_51 : decode cJ1_init_2 51 = .ok (.invokestatic 70, 3) := dk_184 0 70 (dk_at dksJ1_init_2_2 4 rfl rfl)
theorem dJ1_init_2_54 : decode cJ1_init_2 54 = .ok (.ifCond .eq 30, 3) := dk_153 0 30 (dk_at dksJ1_init_2_2 7 rfl rfl)
theorem dJ1_init_2_57 : decode cJ1_init_2 57 = .ok (.new 49, 3) := dk_187 0 49 (dk_at dksJ1_init_2_2 10 rfl rfl)
theorem dJ1_init_2_60 : decode cJ1_init_2 60 = .ok (.dup, 1) := dk_89 (dk_at dksJ1_init_2_2 13 rfl rfl)
theorem dJ1_init_2_61 : decode cJ1_init_2 61 = .ok (.new 51, 3) := dk_187 0 51 (dk_at dksJ1_init_2_2 14 rfl rfl)
theorem dJ1_init_2_64 : decode cJ1_init_2 64 = .ok (.dup, 1) := dk_89 (dk_at dksJ1_init_2_2 17 rfl rfl)
theorem dJ1_init_2_65 : decode cJ1_init_2 65 = .ok (.invokespecial 53, 3) := dk_183 0 53 (dk_at dksJ1_init_2_2 18 rfl rfl)
theorem dJ1_init_2_68 : decode cJ1_init_2 68 = .ok (.ldc 76, 2) := dk_18 76 (dk_at dksJ1_init_2_2 21 rfl rfl)
theorem dJ1_init_2_70 : decode cJ1_init_2 70 = .ok (.invokevirtual 56, 3) := dk_182 0 56 (dk_at dksJ1_init_2_3 0 rfl rfl)
theorem dJ1_init_2_73 : decode cJ1_init_2 73 = .ok (.fload_n 2, 1) := dk_36 (dk_at dksJ1_init_2_3 3 rfl rfl)
theorem dJ1_init_2_74 : decode cJ1_init_2 74 = .ok (.invokevirtual 78, 3) := dk_182 0 78 (dk_at dksJ1_init_2_3 4 rfl rfl)
theorem dJ1_init_2_77 : decode cJ1_init_2 77 = .ok (.invokevirtual 63, 3) := dk_182 0 63 (dk_at dksJ1_init_2_3 7 rfl rfl)
theorem dJ1_init_2_80 : decode cJ1_init_2 80 = .ok (.invokespecial 67, 3) := dk_183 0 67 (dk_at dksJ1_init_2_3 10 rfl rfl)
theorem dJ1_init_2_83 : decode cJ1_init_2 83 = .ok (.athrow, 1) := dk_191 (dk_at dksJ1_init_2_3 13 rfl rfl)
theorem dJ1_init_2_84 : decode cJ1_init_2 84 = .ok (.aload_n 0, 1) := dk_42 (dk_at dksJ1_init_2_3 14 rfl rfl)
theorem dJ1_init_2_85 : decode cJ1_init_2 85 = .ok (.fload_n 2, 1) := dk_36 (dk_at dksJ1_init_2_3 15 rfl rfl)
theorem dJ1_init_2_86 : decode cJ1_init_2 86 = .ok (.putfield 81, 3) := dk_181 0 81 (dk_at dksJ1_init_2_3 16 rfl rfl)
theorem dJ1_init_2_89 : decode cJ1_init_2 89 = .ok (.aload_n 0, 1) := dk_42 (dk_at dksJ1_init_2_3 19 rfl rfl)
theorem dJ1_init_2_90 : decode cJ1_init_2 90 = .ok (.iload_n 1, 1) := dk_27 (dk_at dksJ1_init_2_3 20 rfl rfl)
theorem dJ1_init_2_91 : decode cJ1_init_2 91 = .ok (.invokestatic 85, 3) := dk_184 0 85 (dk_at dksJ1_init_2_3 21 rfl rfl)
theorem dJ1_init_2_94 : decode cJ1_init_2 94 = .ok (.putfield 88, 3) := dk_181 0 88 (dk_at dksJ1_init_2_4 0 rfl rfl)
theorem dJ1_init_2_97 : decode cJ1_init_2 97 = .ok (.return_, 1) := dk_177 (dk_at dksJ1_init_2_4 3 rfl rfl)
/-! java/util/HashMap.<init>(IF)V -/
abbrev M_J1_init_2 (z0 n0 : Nat) (s' : gS) : gM := (RJ1, cJ1_init_2, 3, none, "<init>", [], 3, z0, n0, s'.2.1, s'.2.2)
abbrev W_J1_init_2 (E : gE) (z0 n0 : Nat) (r : Unit) (s' : gS) (pc : Nat) (L : List (Nat × gV)) (st : List gV) (s : gS) : Prop := gW E (M_J1_init_2 z0 n0 s') (gQm E (M_J1_init_2 z0 n0 s') (.inl none) s') pc L st s
noncomputable def f_J1_init_2_57 (κ : gK) (F : Nat)  (l2 : UInt32) (s : gS) : Option (Unit × gS) :=
  none
set_option maxHeartbeats 4000000 in
theorem w_J1_init_2_57 {E : gE} {F z0 n0 : Nat} {r : Unit} {s' : gS}   : ∀ (l2 : UInt32)  (s : gS), f_J1_init_2_57 (gk E) F  l2 s = some (r, s') → W_J1_init_2 E z0 n0 r s' 57 [(2, vF l2)] [] s := by
  intro l2 s hB
  unfold f_J1_init_2_57 at hB
  cases hB
noncomputable def f_J1_init_2_44 (κ : gK) (F : Nat)  (l0 : Option Nat) (l1 : Int32) (l2 : UInt32) (s : gS) : Option (Unit × gS) :=
  if (Op.cmpValue (FP.fcmp l2 FP.fconst0) .g) ≤ 0 then
    f_J1_init_2_57 κ F  l2 s
  else
    gB2 (f_J29_isNaN κ F l2 s) fun v2 s1 =>
    if v2 = 0 then
      gB1 (gpf κ s1 l0 10 5 (.float l2)) fun s3 =>
      gB2 (f_J1_tableSizeFor κ F l1 s3) fun v5 s4 =>
      gB1 (gpf κ s4 l0 10 4 (.int v5)) fun s6 =>
      some ((), s6)
    else
      f_J1_init_2_57 κ F  l2 s1
set_option maxHeartbeats 4000000 in
theorem w_J1_init_2_44 {E : gE} {F z0 n0 : Nat} {r : Unit} {s' : gS}   : ∀ (l0 : Option Nat) (l1 : Int32) (l2 : UInt32)  (s : gS), f_J1_init_2_44 (gk E) F  l0 l1 l2 s = some (r, s') → W_J1_init_2 E z0 n0 r s' 44 [(0, vR l0), (1, vI l1), (2, vF l2)] [] s := by
  intro l0 l1 l2 s hB
  unfold f_J1_init_2_44 at hB
  refine gw_fload_n 2 rfl dJ1_init_2_44 ?_
  refine gw_fconst0 dJ1_init_2_45 ?_
  refine gw_fcmp dJ1_init_2_46 ?_
  refine gw_if_le (tgt := 57) dJ1_init_2_47 (by decide) (fun hcnd => ?_) (fun hcnd => ?_)
  · rw [if_pos hcnd] at hB
    exact gw_sub [2] rfl (w_J1_init_2_57  _ _ hB)
  · rw [if_neg hcnd] at hB
    refine gw_fload_n 2 rfl dJ1_init_2_50 ?_
    obtain ⟨v2, s1, hv2, hB⟩ := gB2_some hB
    refine gw_callS (y := yJ29_isNaN) (lw_S q1497 q1498 q148 q1499) hdS_J29_isNaN (As := [vF l2]) (rest := []) (m_J29_isNaN _ _ _ _ hv2) (Nat.le_of_ble_eq_true rfl) (Nat.le_of_ble_eq_true rfl) rfl (Nat.le_of_ble_eq_true rfl) dJ1_init_2_51 (gCont_i ?_)
    refine gw_if_eq (tgt := 84) dJ1_init_2_54 (by decide) (fun hcnd => ?_) (fun hcnd => ?_)
    · rw [if_pos hcnd] at hB
      refine gw_aload_n 0 rfl dJ1_init_2_84 ?_
      refine gw_fload_n 2 rfl dJ1_init_2_85 ?_
      obtain ⟨s3, hs3, hB⟩ := gB1_some hB
      refine gw_putfF (C := RJ2) (T := TJ2) (N := 12) (k := 5) tyJ2 tyJ2_ok nmJ2 gcl10 (by decide) in_J2 q245 rfl rfl rfl (tyJ2_ok 5 (by decide)) (gNF_f _) hs3 dJ1_init_2_86 ?_
      refine gw_aload_n 0 rfl dJ1_init_2_89 ?_
      refine gw_iload_n 1 rfl dJ1_init_2_90 ?_
      obtain ⟨v5, s4, hv5, hB⟩ := gB2_some hB
      refine gw_callS (y := yJ1_tableSizeFor) (lw_S q1777 q1778 q113 q1779) hdS_J1_tableSizeFor (As := [vI l1]) (rest := [vR l0]) (m_J1_tableSizeFor _ _ _ _ hv5) (Nat.le_of_ble_eq_true rfl) (Nat.le_of_ble_eq_true rfl) rfl (Nat.le_of_ble_eq_true rfl) dJ1_init_2_91 (gCont_i ?_)
      obtain ⟨s6, hs6, hB⟩ := gB1_some hB
      refine gw_putf (C := RJ2) (T := TJ2) (N := 12) (k := 4) tyJ2 tyJ2_ok nmJ2 gcl10 (by decide) in_J2 q244 rfl (tyJ2_ok 4 (by decide)) (gNF_i _) hs6 dJ1_init_2_94 ?_
      obtain ⟨rfl, rfl⟩ := Prod.mk.inj (Option.some.inj hB)
      exact gw_vret rfl rfl rfl dJ1_init_2_97
    · rw [if_neg hcnd] at hB
      exact gw_sub [2] rfl (w_J1_init_2_57  _ _ hB)
noncomputable def f_J1_init_2_0 (κ : gK) (F : Nat)  (l0 : Option Nat) (l1 : Int32) (l2 : UInt32) (s : gS) : Option (Unit × gS) :=
  gB1 (gsm l0) fun _ =>
  gB2 (f_J0_init κ F l0  s) fun v2 s1 =>
  if 0 ≤ l1 then
    if l1 ≤ (1073741824 : Int32) then
      f_J1_init_2_44 κ F  l0 l1 l2 s1
    else
      f_J1_init_2_44 κ F  l0 (1073741824 : Int32) l2 s1
  else
    none
set_option maxHeartbeats 4000000 in
theorem w_J1_init_2_0 {E : gE} {F z0 n0 : Nat} {r : Unit} {s' : gS}   : ∀ (l0 : Option Nat) (l1 : Int32) (l2 : UInt32)  (s : gS), f_J1_init_2_0 (gk E) F  l0 l1 l2 s = some (r, s') → W_J1_init_2 E z0 n0 r s' 0 [(0, vR l0), (1, vI l1), (2, vF l2)] [] s := by
  intro l0 l1 l2 s hB
  unfold f_J1_init_2_0 at hB
  refine gw_aload_n 0 rfl dJ1_init_2_0 ?_
  obtain ⟨u0, hu3, hB⟩ := gB1_some hB
  obtain ⟨v2, s1, hv2, hB⟩ := gB2_some hB
  refine gw_callI (y := yJ0_init) (lw_meth q226) q112 q224 q225 rfl hdS_J0_init (gsm_spec hu3) (As := []) (rest := []) (m_J0_init _ _ _ _ hv2) (Nat.le_of_ble_eq_true rfl) (Nat.le_of_ble_eq_true rfl) rfl (Nat.le_of_ble_eq_true rfl) dJ1_init_2_1 (gCont_v ?_)
  refine gw_iload_n 1 rfl dJ1_init_2_4 ?_
  refine gw_if_ge (tgt := 35) dJ1_init_2_5 (by decide) (fun hcnd => ?_) (fun hcnd => ?_)
  · rw [if_pos hcnd] at hB
    refine gw_iload_n 1 rfl dJ1_init_2_35 ?_
    refine gw_ldc (1073741824 : Int32) q764 dJ1_init_2_36 ?_
    refine gw_icmp_le (tgt := 44) dJ1_init_2_38 (by decide) (fun hcnd => ?_) (fun hcnd => ?_)
    · rw [if_pos hcnd] at hB
      exact gw_sub [0, 1, 2] rfl (w_J1_init_2_44  _ _ _ _ hB)
    · rw [if_neg hcnd] at hB
      refine gw_ldc (1073741824 : Int32) q764 dJ1_init_2_41 ?_
      refine gw_istore_n (L' := [(1, vI (1073741824 : Int32)), (0, vR l0), (2, vF l2)]) (Nat.le_of_ble_eq_true rfl) rfl dJ1_init_2_43 ?_
      exact gw_sub [1, 0, 2] rfl (w_J1_init_2_44  _ _ _ _ hB)
  · rw [if_neg hcnd] at hB
    cases hB
noncomputable def f_J1_init_2 (κ : gK) (F : Nat) (a0 : Option Nat) (a1 : Int32) (a2 : UInt32) (s : gS) : Option (Unit × gS) := f_J1_init_2_0 κ F a0 a1 a2 s
theorem m_J1_init_2 {E : gE} {F : Nat} (a0 : Option Nat) (a1 : Int32) (a2 : UInt32) (s : gS) (r : Unit) (s' : gS) (h : f_J1_init_2 (gk E) F a0 a1 a2 s = some (r, s')) : gCT E 3 yJ1_init_2 (ws_ yJ1_init_2 cJ1_init_2 3 none) [vR a0, vI a1, vF a2] s (.inl none) s' := by
  refine gCT_of2 (fun h => absurd h (by decide)) (plainFor_of_name (by decide)) (Nat.le_of_ble_eq_true rfl) ?_
  exact gw_sub [0, 1, 2] rfl (w_J1_init_2_0 _ _ _ _ h)
def dkwJ2_init_2_0 : List UInt8 := [42, 27, 36, 183, 0, 81, 42, 3, 181, 0, 1, 42, 3, 181, 0, 64, 177]
abbrev dktJ2_init_2_0 : List UInt8 := dkwJ2_init_2_0 ++ []
theorem dksJ2_init_2_0 : cJ2_init_2.data.toList.drop 0 = dktJ2_init_2_0 := by decide +kernel
theorem dJ2_init_2_0 : decode cJ2_init_2 0 = .ok (.aload_n 0, 1) := dk_42 (dk_at dksJ2_init_2_0 0 rfl rfl)
theorem dJ2_init_2_1 : decode cJ2_init_2 1 = .ok (.iload_n 1, 1) := dk_27 (dk_at dksJ2_init_2_0 1 rfl rfl)
theorem dJ2_init_2_2 : decode cJ2_init_2 2 = .ok (.fload_n 2, 1) := dk_36 (dk_at dksJ2_init_2_0 2 rfl rfl)
theorem dJ2_init_2_3 : decode cJ2_init_2 3 = .ok (.invokespecial 81, 3) := dk_183 0 81 (dk_at dksJ2_init_2_0 3 rfl rfl)
theorem dJ2_init_2_6 : decode cJ2_init_2 6 = .ok (.aload_n 0, 1) := dk_42 (dk_at dksJ2_init_2_0 6 rfl rfl)
theorem dJ2_init_2_7 : decode cJ2_init_2 7 = .ok (.iconst 0, 1) := dk_3 (dk_at dksJ2_init_2_0 7 rfl rfl)
theorem dJ2_init_2_8 : decode cJ2_init_2 8 = .ok (.putfield 1, 3) := dk_181 0 1 (dk_at dksJ2_init_2_0 8 rfl rfl)
theorem dJ2_init_2_11 : decode cJ2_init_2 11 = .ok (.aload_n 0, 1) := dk_42 (dk_at dksJ2_init_2_0 11 rfl rfl)
theorem dJ2_init_2_12 : decode cJ2_init_2 12 = .ok (.iconst 0, 1) := dk_3 (dk_at dksJ2_init_2_0 12 rfl rfl)
theorem dJ2_init_2_13 : decode cJ2_init_2 13 = .ok (.putfield 64, 3) := dk_181 0 64 (dk_at dksJ2_init_2_0 13 rfl rfl)
theorem dJ2_init_2_16 : decode cJ2_init_2 16 = .ok (.return_, 1) := dk_177 (dk_at dksJ2_init_2_0 16 rfl rfl)
/-! java/util/LinkedHashMap.<init>(IF)V -/
abbrev M_J2_init_2 (z0 n0 : Nat) (s' : gS) : gM := (RJ2, cJ2_init_2, 3, none, "<init>", [], 4, z0, n0, s'.2.1, s'.2.2)
abbrev W_J2_init_2 (E : gE) (z0 n0 : Nat) (r : Unit) (s' : gS) (pc : Nat) (L : List (Nat × gV)) (st : List gV) (s : gS) : Prop := gW E (M_J2_init_2 z0 n0 s') (gQm E (M_J2_init_2 z0 n0 s') (.inl none) s') pc L st s
noncomputable def f_J2_init_2_0 (κ : gK) (F : Nat)  (l0 : Option Nat) (l1 : Int32) (l2 : UInt32) (s : gS) : Option (Unit × gS) :=
  gB1 (gsm l0) fun _ =>
  gB2 (f_J1_init_2 κ F l0 l1 l2 s) fun v2 s1 =>
  gB1 (gpf κ s1 l0 10 11 (.int (0 : Int32))) fun s4 =>
  gB1 (gok .boolean (0 : Int32)) fun _ =>
  gB1 (gpf κ s4 l0 10 10 (.int (0 : Int32))) fun s6 =>
  some ((), s6)
set_option maxHeartbeats 4000000 in
theorem w_J2_init_2_0 {E : gE} {F z0 n0 : Nat} {r : Unit} {s' : gS}   : ∀ (l0 : Option Nat) (l1 : Int32) (l2 : UInt32)  (s : gS), f_J2_init_2_0 (gk E) F  l0 l1 l2 s = some (r, s') → W_J2_init_2 E z0 n0 r s' 0 [(0, vR l0), (1, vI l1), (2, vF l2)] [] s := by
  intro l0 l1 l2 s hB
  unfold f_J2_init_2_0 at hB
  refine gw_aload_n 0 rfl dJ2_init_2_0 ?_
  refine gw_iload_n 1 rfl dJ2_init_2_1 ?_
  refine gw_fload_n 2 rfl dJ2_init_2_2 ?_
  obtain ⟨u0, hu3, hB⟩ := gB1_some hB
  obtain ⟨v2, s1, hv2, hB⟩ := gB2_some hB
  refine gw_callI (y := yJ1_init_2) (lw_meth q1488) q113 q1486 q1487 rfl hdS_J1_init_2 (gsm_spec hu3) (As := [vI l1, vF l2]) (rest := []) (m_J1_init_2 _ _ _ _ _ _ hv2) (Nat.le_of_ble_eq_true rfl) (Nat.le_of_ble_eq_true rfl) rfl (Nat.le_of_ble_eq_true rfl) dJ2_init_2_3 (gCont_v ?_)
  refine gw_aload_n 0 rfl dJ2_init_2_6 ?_
  refine gw_iconst (v := (0 : Int32)) (by decide) dJ2_init_2_7 ?_
  obtain ⟨s4, hs4, hB⟩ := gB1_some hB
  refine gw_putf (C := RJ2) (T := TJ2) (N := 12) (k := 11) tyJ2 tyJ2_ok nmJ2 gcl10 (by decide) in_J2 q234 rfl (tyJ2_ok 11 (by decide)) (gNF_i _) hs4 dJ2_init_2_8 ?_
  refine gw_aload_n 0 rfl dJ2_init_2_11 ?_
  refine gw_iconst (v := (0 : Int32)) (by decide) dJ2_init_2_12 ?_
  obtain ⟨u0, hu5, hB⟩ := gB1_some hB
  obtain ⟨s6, hs6, hB⟩ := gB1_some hB
  refine gw_putfF (C := RJ2) (T := TJ2) (N := 12) (k := 10) tyJ2 tyJ2_ok nmJ2 gcl10 (by decide) in_J2 q233 rfl rfl rfl (tyJ2_ok 10 (by decide)) (gok_spec hu5) hs6 dJ2_init_2_13 ?_
  obtain ⟨rfl, rfl⟩ := Prod.mk.inj (Option.some.inj hB)
  exact gw_vret rfl rfl rfl dJ2_init_2_16
noncomputable def f_J2_init_2 (κ : gK) (F : Nat) (a0 : Option Nat) (a1 : Int32) (a2 : UInt32) (s : gS) : Option (Unit × gS) := f_J2_init_2_0 κ F a0 a1 a2 s
theorem m_J2_init_2 {E : gE} {F : Nat} (a0 : Option Nat) (a1 : Int32) (a2 : UInt32) (s : gS) (r : Unit) (s' : gS) (h : f_J2_init_2 (gk E) F a0 a1 a2 s = some (r, s')) : gCT E 4 yJ2_init_2 (ws_ yJ2_init_2 cJ2_init_2 3 none) [vR a0, vI a1, vF a2] s (.inl none) s' := by
  refine gCT_of2 (fun h => absurd h (by decide)) (plainFor_of_name (by decide)) (Nat.le_of_ble_eq_true rfl) ?_
  exact gw_sub [0, 1, 2] rfl (w_J2_init_2_0 _ _ _ _ h)
def dkwJ27_init_0 : List UInt8 := [42, 183, 0, 1, 42, 187, 0, 42, 89, 27, 36, 183, 0, 44, 181, 0, 10, 177]
abbrev dktJ27_init_0 : List UInt8 := dkwJ27_init_0 ++ []
theorem dksJ27_init_0 : cJ27_init.data.toList.drop 0 = dktJ27_init_0 := by decide +kernel
theorem dJ27_init_0 : decode cJ27_init 0 = .ok (.aload_n 0, 1) := dk_42 (dk_at dksJ27_init_0 0 rfl rfl)
theorem dJ27_init_1 : decode cJ27_init 1 = .ok (.invokespecial 1, 3) := dk_183 0 1 (dk_at dksJ27_init_0 1 rfl rfl)
theorem dJ27_init_4 : decode cJ27_init 4 = .ok (.aload_n 0, 1) := dk_42 (dk_at dksJ27_init_0 4 rfl rfl)
theorem dJ27_init_5 : decode cJ27_init 5 = .ok (.new 42, 3) := dk_187 0 42 (dk_at dksJ27_init_0 5 rfl rfl)
theorem dJ27_init_8 : decode cJ27_init 8 = .ok (.dup, 1) := dk_89 (dk_at dksJ27_init_0 8 rfl rfl)
theorem dJ27_init_9 : decode cJ27_init 9 = .ok (.iload_n 1, 1) := dk_27 (dk_at dksJ27_init_0 9 rfl rfl)
theorem dJ27_init_10 : decode cJ27_init 10 = .ok (.fload_n 2, 1) := dk_36 (dk_at dksJ27_init_0 10 rfl rfl)
theorem dJ27_init_11 : decode cJ27_init 11 = .ok (.invokespecial 44, 3) := dk_183 0 44 (dk_at dksJ27_init_0 11 rfl rfl)
theorem dJ27_init_14 : decode cJ27_init 14 = .ok (.putfield 10, 3) := dk_181 0 10 (dk_at dksJ27_init_0 14 rfl rfl)
theorem dJ27_init_17 : decode cJ27_init 17 = .ok (.return_, 1) := dk_177 (dk_at dksJ27_init_0 17 rfl rfl)
/-! java/util/HashSet.<init>(IFZ)V -/
abbrev M_J27_init (z0 n0 : Nat) (s' : gS) : gM := (RJ27, cJ27_init, 4, none, "<init>", [], 5, z0, n0, s'.2.1, s'.2.2)
abbrev W_J27_init (E : gE) (z0 n0 : Nat) (r : Unit) (s' : gS) (pc : Nat) (L : List (Nat × gV)) (st : List gV) (s : gS) : Prop := gW E (M_J27_init z0 n0 s') (gQm E (M_J27_init z0 n0 s') (.inl none) s') pc L st s
noncomputable def f_J27_init_0 (κ : gK) (F : Nat)  (l0 : Option Nat) (l1 : Int32) (l2 : UInt32) (s : gS) : Option (Unit × gS) :=
  gB1 (gsm l0) fun _ =>
  gB2 (f_J26_init κ F l0  s) fun v2 s1 =>
  gB2 (gnw s1 10 g0_J2 12) fun v4 s5 =>
  gB1 (gsm v4) fun _ =>
  gB2 (f_J2_init_2 κ F v4 l1 l2 s5) fun v7 s6 =>
  gB1 (gpf κ s6 l0 12 0 (va_rf v4)) fun s9 =>
  some ((), s9)
set_option maxHeartbeats 4000000 in
theorem w_J27_init_0 {E : gE} {F z0 n0 : Nat} {r : Unit} {s' : gS}   : ∀ (l0 : Option Nat) (l1 : Int32) (l2 : UInt32)  (s : gS), f_J27_init_0 (gk E) F  l0 l1 l2 s = some (r, s') → W_J27_init E z0 n0 r s' 0 [(0, vR l0), (1, vI l1), (2, vF l2)] [] s := by
  intro l0 l1 l2 s hB
  unfold f_J27_init_0 at hB
  refine gw_aload_n 0 rfl dJ27_init_0 ?_
  obtain ⟨u0, hu3, hB⟩ := gB1_some hB
  obtain ⟨v2, s1, hv2, hB⟩ := gB2_some hB
  refine gw_callI (y := yJ26_init) (lw_meth q1480) q145 q1478 q1479 rfl hdS_J26_init (gsm_spec hu3) (As := []) (rest := []) (m_J26_init _ _ _ _ hv2) (Nat.le_of_ble_eq_true rfl) (Nat.le_of_ble_eq_true rfl) rfl (Nat.le_of_ble_eq_true rfl) dJ27_init_1 (gCont_v ?_)
  refine gw_aload_n 0 rfl dJ27_init_4 ?_
  obtain ⟨v4, s5, hv4, hB⟩ := gB2_some hB
  refine gw_new (C := RJ2) (T := TJ2) (N := 12) tyJ2 tyJ2_ok gcl10 in_J2 q1482 q217 q114 g0_J2_ok hv4 dJ27_init_5 ?_
  refine gw_dup rfl dJ27_init_8 ?_
  refine gw_iload_n 1 rfl dJ27_init_9 ?_
  refine gw_fload_n 2 rfl dJ27_init_10 ?_
  obtain ⟨u0, hu8, hB⟩ := gB1_some hB
  obtain ⟨v7, s6, hv7, hB⟩ := gB2_some hB
  refine gw_callI (y := yJ2_init_2) (lw_meth q1485) q114 q1483 q1484 rfl hdS_J2_init_2 (gsm_spec hu8) (As := [vI l1, vF l2]) (rest := [vR v4, vR l0]) (m_J2_init_2 _ _ _ _ _ _ hv7) (Nat.le_of_ble_eq_true rfl) (Nat.le_of_ble_eq_true rfl) rfl (Nat.le_of_ble_eq_true rfl) dJ27_init_11 (gCont_v ?_)
  obtain ⟨s9, hs9, hB⟩ := gB1_some hB
  refine gw_putf (C := RJ28) (T := TJ28) (N := 1) (k := 0) tyJ28 tyJ28_ok nmJ28 gcl12 (by decide) in_J28 q1781 rfl (tyJ28_ok 0 (by decide)) (gNF_o _ _) hs9 dJ27_init_14 ?_
  obtain ⟨rfl, rfl⟩ := Prod.mk.inj (Option.some.inj hB)
  exact gw_vret rfl rfl rfl dJ27_init_17
noncomputable def f_J27_init (κ : gK) (F : Nat) (a0 : Option Nat) (a1 : Int32) (a2 : UInt32) (a3 : Int32) (s : gS) : Option (Unit × gS) := f_J27_init_0 κ F a0 a1 a2 s
theorem m_J27_init {E : gE} {F : Nat} (a0 : Option Nat) (a1 : Int32) (a2 : UInt32) (a3 : Int32) (s : gS) (r : Unit) (s' : gS) (h : f_J27_init (gk E) F a0 a1 a2 a3 s = some (r, s')) : gCT E 5 yJ27_init (ws_ yJ27_init cJ27_init 4 none) [vR a0, vI a1, vF a2, vI a3] s (.inl none) s' := by
  refine gCT_of2 (fun h => absurd h (by decide)) (plainFor_of_name (by decide)) (Nat.le_of_ble_eq_true rfl) ?_
  exact gw_sub [0, 1, 2] rfl (w_J27_init_0 _ _ _ _ h)
def dkwJ28_init_0 : List UInt8 := [42, 16, 16, 18, 7, 4, 183, 0, 1, 177]
abbrev dktJ28_init_0 : List UInt8 := dkwJ28_init_0 ++ []
theorem dksJ28_init_0 : cJ28_init.data.toList.drop 0 = dktJ28_init_0 := by decide +kernel
theorem dJ28_init_0 : decode cJ28_init 0 = .ok (.aload_n 0, 1) := dk_42 (dk_at dksJ28_init_0 0 rfl rfl)
theorem dJ28_init_1 : decode cJ28_init 1 = .ok (.bipush 16, 2) := dk_16 16 (dk_at dksJ28_init_0 1 rfl rfl)
theorem dJ28_init_3 : decode cJ28_init 3 = .ok (.ldc 7, 2) := dk_18 7 (dk_at dksJ28_init_0 3 rfl rfl)
theorem dJ28_init_5 : decode cJ28_init 5 = .ok (.iconst 1, 1) := dk_4 (dk_at dksJ28_init_0 5 rfl rfl)
theorem dJ28_init_6 : decode cJ28_init 6 = .ok (.invokespecial 1, 3) := dk_183 0 1 (dk_at dksJ28_init_0 6 rfl rfl)
theorem dJ28_init_9 : decode cJ28_init 9 = .ok (.return_, 1) := dk_177 (dk_at dksJ28_init_0 9 rfl rfl)
/-! java/util/LinkedHashSet.<init>()V -/
abbrev M_J28_init (z0 n0 : Nat) (s' : gS) : gM := (RJ28, cJ28_init, 1, none, "<init>", [], 6, z0, n0, s'.2.1, s'.2.2)
abbrev W_J28_init (E : gE) (z0 n0 : Nat) (r : Unit) (s' : gS) (pc : Nat) (L : List (Nat × gV)) (st : List gV) (s : gS) : Prop := gW E (M_J28_init z0 n0 s') (gQm E (M_J28_init z0 n0 s') (.inl none) s') pc L st s
noncomputable def f_J28_init_0 (κ : gK) (F : Nat)  (l0 : Option Nat) (s : gS) : Option (Unit × gS) :=
  gB1 (gsm l0) fun _ =>
  gB2 (f_J27_init κ F l0 (16 : Int32) (1061158912 : UInt32) (1 : Int32) s) fun v2 s1 =>
  some ((), s1)
set_option maxHeartbeats 4000000 in
theorem w_J28_init_0 {E : gE} {F z0 n0 : Nat} {r : Unit} {s' : gS}   : ∀ (l0 : Option Nat)  (s : gS), f_J28_init_0 (gk E) F  l0 s = some (r, s') → W_J28_init E z0 n0 r s' 0 [(0, vR l0)] [] s := by
  intro l0 s hB
  unfold f_J28_init_0 at hB
  refine gw_aload_n 0 rfl dJ28_init_0 ?_
  refine gw_bipush (v := (16 : Int32)) (by decide) dJ28_init_1 ?_
  refine gw_ldcf (1061158912 : UInt32) q1474 dJ28_init_3 ?_
  refine gw_iconst (v := (1 : Int32)) (by decide) dJ28_init_5 ?_
  obtain ⟨u0, hu3, hB⟩ := gB1_some hB
  obtain ⟨v2, s1, hv2, hB⟩ := gB2_some hB
  refine gw_callI (y := yJ27_init) (lw_meth q1477) q146 q1475 q1476 rfl hdS_J27_init (gsm_spec hu3) (As := [vI (16 : Int32), vF (1061158912 : UInt32), vI (1 : Int32)]) (rest := []) (m_J27_init _ _ _ _ _ _ _ hv2) (Nat.le_of_ble_eq_true rfl) (Nat.le_of_ble_eq_true rfl) rfl (Nat.le_of_ble_eq_true rfl) dJ28_init_6 (gCont_v ?_)
  obtain ⟨rfl, rfl⟩ := Prod.mk.inj (Option.some.inj hB)
  exact gw_vret rfl rfl rfl dJ28_init_9
noncomputable def f_J28_init (κ : gK) (F : Nat) (a0 : Option Nat) (s : gS) : Option (Unit × gS) := f_J28_init_0 κ F a0 s
theorem m_J28_init {E : gE} {F : Nat} (a0 : Option Nat) (s : gS) (r : Unit) (s' : gS) (h : f_J28_init (gk E) F a0 s = some (r, s')) : gCT E 6 yJ28_init (ws_ yJ28_init cJ28_init 1 none) [vR a0] s (.inl none) s' := by
  refine gCT_of2 (fun h => absurd h (by decide)) (plainFor_of_name (by decide)) (Nat.le_of_ble_eq_true rfl) ?_
  exact gw_sub [0] rfl (w_J28_init_0 _ _ h)
def dkwX7_init_1 : List UInt8 := [181, 0, 16, 42, 27, 181, 0, 19, 177]
abbrev dktX7_init_1 : List UInt8 := dkwX7_init_1 ++ []
def dkwX7_init_0 : List UInt8 := [42, 183, 0, 1, 42, 187, 0, 7, 89, 183, 0, 9, 181, 0, 10, 42, 187, 0, 7, 89, 183, 0, 9]
abbrev dktX7_init_0 : List UInt8 := dkwX7_init_0 ++ dktX7_init_1
theorem dksX7_init_0 : cX7_init.data.toList.drop 0 = dktX7_init_0 := by decide +kernel
theorem dksX7_init_1 : cX7_init.data.toList.drop 23 = dktX7_init_1 := dk_seg dksX7_init_0 23 rfl rfl
theorem dX7_init_0 : decode cX7_init 0 = .ok (.aload_n 0, 1) := dk_42 (dk_at dksX7_init_0 0 rfl rfl)
theorem dX7_init_1 : decode cX7_init 1 = .ok (.invokespecial 1, 3) := dk_183 0 1 (dk_at dksX7_init_0 1 rfl rfl)
theorem dX7_init_4 : decode cX7_init 4 = .ok (.aload_n 0, 1) := dk_42 (dk_at dksX7_init_0 4 rfl rfl)
theorem dX7_init_5 : decode cX7_init 5 = .ok (.new 7, 3) := dk_187 0 7 (dk_at dksX7_init_0 5 rfl rfl)
theorem dX7_init_8 : decode cX7_init 8 = .ok (.dup, 1) := dk_89 (dk_at dksX7_init_0 8 rfl rfl)
theorem dX7_init_9 : decode cX7_init 9 = .ok (.invokespecial 9, 3) := dk_183 0 9 (dk_at dksX7_init_0 9 rfl rfl)
theorem dX7_init_12 : decode cX7_init 12 = .ok (.putfield 10, 3) := dk_181 0 10 (dk_at dksX7_init_0 12 rfl rfl)
theorem dX7_init_15 : decode cX7_init 15 = .ok (.aload_n 0, 1) := dk_42 (dk_at dksX7_init_0 15 rfl rfl)
theorem dX7_init_16 : decode cX7_init 16 = .ok (.new 7, 3) := dk_187 0 7 (dk_at dksX7_init_0 16 rfl rfl)
theorem dX7_init_19 : decode cX7_init 19 = .ok (.dup, 1) := dk_89 (dk_at dksX7_init_0 19 rfl rfl)
theorem dX7_init_20 : decode cX7_init 20 = .ok (.invokespecial 9, 3) := dk_183 0 9 (dk_at dksX7_init_0 20 rfl rfl)
theorem dX7_init_23 : decode cX7_init 23 = .ok (.putfield 16, 3) := dk_181 0 16 (dk_at dksX7_init_1 0 rfl rfl)
theorem dX7_init_26 : decode cX7_init 26 = .ok (.aload_n 0, 1) := dk_42 (dk_at dksX7_init_1 3 rfl rfl)
theorem dX7_init_27 : decode cX7_init 27 = .ok (.iload_n 1, 1) := dk_27 (dk_at dksX7_init_1 4 rfl rfl)
theorem dX7_init_28 : decode cX7_init 28 = .ok (.putfield 19, 3) := dk_181 0 19 (dk_at dksX7_init_1 5 rfl rfl)
theorem dX7_init_31 : decode cX7_init 31 = .ok (.return_, 1) := dk_177 (dk_at dksX7_init_1 8 rfl rfl)
/-! PageGarden$Draft.<init>(I)V -/
abbrev M_X7_init (z0 n0 : Nat) (s' : gS) : gM := (RX7, cX7_init, 2, none, "<init>", [], 7, z0, n0, s'.2.1, s'.2.2)
abbrev W_X7_init (E : gE) (z0 n0 : Nat) (r : Unit) (s' : gS) (pc : Nat) (L : List (Nat × gV)) (st : List gV) (s : gS) : Prop := gW E (M_X7_init z0 n0 s') (gQm E (M_X7_init z0 n0 s') (.inl none) s') pc L st s
noncomputable def f_X7_init_0 (κ : gK) (F : Nat)  (l0 : Option Nat) (l1 : Int32) (s : gS) : Option (Unit × gS) :=
  gB1 (gsm l0) fun _ =>
  gB2 (gnw s 12 g0_J28 1) fun v2 s3 =>
  gB1 (gsm v2) fun _ =>
  gB2 (f_J28_init κ F v2  s3) fun v5 s4 =>
  gB1 (gpf κ s4 l0 6 0 (va_rf v2)) fun s7 =>
  gB2 (gnw s7 12 g0_J28 1) fun v8 s9 =>
  gB1 (gsm v8) fun _ =>
  gB2 (f_J28_init κ F v8  s9) fun v11 s10 =>
  gB1 (gpf κ s10 l0 6 1 (va_rf v8)) fun s13 =>
  gB1 (gpf κ s13 l0 6 2 (.int l1)) fun s14 =>
  some ((), s14)
set_option maxHeartbeats 4000000 in
theorem w_X7_init_0 {E : gE} {F z0 n0 : Nat} {r : Unit} {s' : gS}   : ∀ (l0 : Option Nat) (l1 : Int32)  (s : gS), f_X7_init_0 (gk E) F  l0 l1 s = some (r, s') → W_X7_init E z0 n0 r s' 0 [(0, vR l0), (1, vI l1)] [] s := by
  intro l0 l1 s hB
  unfold f_X7_init_0 at hB
  refine gw_aload_n 0 rfl dX7_init_0 ?_
  obtain ⟨u0, hu1, hB⟩ := gB1_some hB
  refine gw_objInit (gsm_spec hu1) q1468 q172 q173 (Nat.le_of_ble_eq_true rfl) (Nat.le_of_ble_eq_true rfl) dX7_init_1 ?_
  refine gw_aload_n 0 rfl dX7_init_4 ?_
  obtain ⟨v2, s3, hv2, hB⟩ := gB2_some hB
  refine gw_new (C := RJ28) (T := TJ28) (N := 1) tyJ28 tyJ28_ok gcl12 in_J28 q1469 q1470 q147 g0_J28_ok hv2 dX7_init_5 ?_
  refine gw_dup rfl dX7_init_8 ?_
  obtain ⟨u0, hu6, hB⟩ := gB1_some hB
  obtain ⟨v5, s4, hv5, hB⟩ := gB2_some hB
  refine gw_callI (y := yJ28_init) (lw_meth q1473) q147 q1471 q1472 rfl hdS_J28_init (gsm_spec hu6) (As := []) (rest := [vR v2, vR l0]) (m_J28_init _ _ _ _ hv5) (Nat.le_of_ble_eq_true rfl) (Nat.le_of_ble_eq_true rfl) rfl (Nat.le_of_ble_eq_true rfl) dX7_init_9 (gCont_v ?_)
  obtain ⟨s7, hs7, hB⟩ := gB1_some hB
  refine gw_putfF (C := RX7) (T := TX7) (N := 3) (k := 0) tyX7 tyX7_ok nmX7 gcl6 (by decide) in_X7 q1786 rfl rfl rfl (tyX7_ok 0 (by decide)) (gNF_o _ _) hs7 dX7_init_12 ?_
  refine gw_aload_n 0 rfl dX7_init_15 ?_
  obtain ⟨v8, s9, hv8, hB⟩ := gB2_some hB
  refine gw_new (C := RJ28) (T := TJ28) (N := 1) tyJ28 tyJ28_ok gcl12 in_J28 q1469 q1470 q147 g0_J28_ok hv8 dX7_init_16 ?_
  refine gw_dup rfl dX7_init_19 ?_
  obtain ⟨u0, hu12, hB⟩ := gB1_some hB
  obtain ⟨v11, s10, hv11, hB⟩ := gB2_some hB
  refine gw_callI (y := yJ28_init) (lw_meth q1473) q147 q1471 q1472 rfl hdS_J28_init (gsm_spec hu12) (As := []) (rest := [vR v8, vR l0]) (m_J28_init _ _ _ _ hv11) (Nat.le_of_ble_eq_true rfl) (Nat.le_of_ble_eq_true rfl) rfl (Nat.le_of_ble_eq_true rfl) dX7_init_20 (gCont_v ?_)
  obtain ⟨s13, hs13, hB⟩ := gB1_some hB
  refine gw_putfF (C := RX7) (T := TX7) (N := 3) (k := 1) tyX7 tyX7_ok nmX7 gcl6 (by decide) in_X7 q1788 rfl rfl rfl (tyX7_ok 1 (by decide)) (gNF_o _ _) hs13 dX7_init_23 ?_
  refine gw_aload_n 0 rfl dX7_init_26 ?_
  refine gw_iload_n 1 rfl dX7_init_27 ?_
  obtain ⟨s14, hs14, hB⟩ := gB1_some hB
  refine gw_putf (C := RX7) (T := TX7) (N := 3) (k := 2) tyX7 tyX7_ok nmX7 gcl6 (by decide) in_X7 q1790 rfl (tyX7_ok 2 (by decide)) (gNF_i _) hs14 dX7_init_28 ?_
  obtain ⟨rfl, rfl⟩ := Prod.mk.inj (Option.some.inj hB)
  exact gw_vret rfl rfl rfl dX7_init_31
noncomputable def f_X7_init (κ : gK) (F : Nat) (a0 : Option Nat) (a1 : Int32) (s : gS) : Option (Unit × gS) := f_X7_init_0 κ F a0 a1 s
theorem m_X7_init {E : gE} {F : Nat} (a0 : Option Nat) (a1 : Int32) (s : gS) (r : Unit) (s' : gS) (h : f_X7_init (gk E) F a0 a1 s = some (r, s')) : gCT E 7 yX7_init (ws_ yX7_init cX7_init 2 none) [vR a0, vI a1] s (.inl none) s' := by
  refine gCT_of2 (fun h => absurd h (by decide)) (plainFor_of_name (by decide)) (Nat.le_of_ble_eq_true rfl) ?_
  exact gw_sub [0, 1] rfl (w_X7_init_0 _ _ _ h)
def dkwJ33_init_0 : List UInt8 := [42, 43, 181, 0, 1, 42, 183, 0, 7, 42, 28, 181, 0, 13, 177]
abbrev dktJ33_init_0 : List UInt8 := dkwJ33_init_0 ++ []
theorem dksJ33_init_0 : cJ33_init.data.toList.drop 0 = dktJ33_init_0 := by decide +kernel
theorem dJ33_init_0 : decode cJ33_init 0 = .ok (.aload_n 0, 1) := dk_42 (dk_at dksJ33_init_0 0 rfl rfl)
theorem dJ33_init_1 : decode cJ33_init 1 = .ok (.aload_n 1, 1) := dk_43 (dk_at dksJ33_init_0 1 rfl rfl)
theorem dJ33_init_2 : decode cJ33_init 2 = .ok (.putfield 1, 3) := dk_181 0 1 (dk_at dksJ33_init_0 2 rfl rfl)
theorem dJ33_init_5 : decode cJ33_init 5 = .ok (.aload_n 0, 1) := dk_42 (dk_at dksJ33_init_0 5 rfl rfl)
theorem dJ33_init_6 : decode cJ33_init 6 = .ok (.invokespecial 7, 3) := dk_183 0 7 (dk_at dksJ33_init_0 6 rfl rfl)
theorem dJ33_init_9 : decode cJ33_init 9 = .ok (.aload_n 0, 1) := dk_42 (dk_at dksJ33_init_0 9 rfl rfl)
theorem dJ33_init_10 : decode cJ33_init 10 = .ok (.iload_n 2, 1) := dk_28 (dk_at dksJ33_init_0 10 rfl rfl)
theorem dJ33_init_11 : decode cJ33_init 11 = .ok (.putfield 13, 3) := dk_181 0 13 (dk_at dksJ33_init_0 11 rfl rfl)
theorem dJ33_init_14 : decode cJ33_init 14 = .ok (.return_, 1) := dk_177 (dk_at dksJ33_init_0 14 rfl rfl)
/-! java/util/LinkedHashMap$LinkedKeySet.<init>(Ljava/util/LinkedHashMap;Z)V -/
abbrev M_J33_init (z0 n0 : Nat) (s' : gS) : gM := (RJ33, cJ33_init, 3, none, "<init>", [], 3, z0, n0, s'.2.1, s'.2.2)
abbrev W_J33_init (E : gE) (z0 n0 : Nat) (r : Unit) (s' : gS) (pc : Nat) (L : List (Nat × gV)) (st : List gV) (s : gS) : Prop := gW E (M_J33_init z0 n0 s') (gQm E (M_J33_init z0 n0 s') (.inl none) s') pc L st s
noncomputable def f_J33_init_0 (κ : gK) (F : Nat)  (l0 : Option Nat) (l1 : Option Nat) (l2 : Int32) (s : gS) : Option (Unit × gS) :=
  gB1 (gpf κ s l0 15 1 (va_rf l1)) fun s1 =>
  gB1 (gsm l0) fun _ =>
  gB2 (f_J26_init κ F l0  s1) fun v3 s2 =>
  gB1 (gok .boolean l2) fun _ =>
  gB1 (gpf κ s2 l0 15 0 (.int l2)) fun s6 =>
  some ((), s6)
set_option maxHeartbeats 4000000 in
theorem w_J33_init_0 {E : gE} {F z0 n0 : Nat} {r : Unit} {s' : gS}   : ∀ (l0 : Option Nat) (l1 : Option Nat) (l2 : Int32)  (s : gS), f_J33_init_0 (gk E) F  l0 l1 l2 s = some (r, s') → W_J33_init E z0 n0 r s' 0 [(0, vR l0), (1, vR l1), (2, vI l2)] [] s := by
  intro l0 l1 l2 s hB
  unfold f_J33_init_0 at hB
  refine gw_aload_n 0 rfl dJ33_init_0 ?_
  refine gw_aload_n 1 rfl dJ33_init_1 ?_
  obtain ⟨s1, hs1, hB⟩ := gB1_some hB
  refine gw_putfF (C := RJ33) (T := TJ33) (N := 2) (k := 1) tyJ33 tyJ33_ok nmJ33 gcl15 (by decide) in_J33 q1822 rfl rfl rfl (tyJ33_ok 1 (by decide)) (gNF_o _ _) hs1 dJ33_init_2 ?_
  refine gw_aload_n 0 rfl dJ33_init_5 ?_
  obtain ⟨u0, hu4, hB⟩ := gB1_some hB
  obtain ⟨v3, s2, hv3, hB⟩ := gB2_some hB
  refine gw_callI (y := yJ26_init) (lw_meth q1480) q145 q1820 q1479 rfl hdS_J26_init (gsm_spec hu4) (As := []) (rest := []) (m_J26_init _ _ _ _ hv3) (Nat.le_of_ble_eq_true rfl) (Nat.le_of_ble_eq_true rfl) rfl (Nat.le_of_ble_eq_true rfl) dJ33_init_6 (gCont_v ?_)
  refine gw_aload_n 0 rfl dJ33_init_9 ?_
  refine gw_iload_n 2 rfl dJ33_init_10 ?_
  obtain ⟨u0, hu5, hB⟩ := gB1_some hB
  obtain ⟨s6, hs6, hB⟩ := gB1_some hB
  refine gw_putfF (C := RJ33) (T := TJ33) (N := 2) (k := 0) tyJ33 tyJ33_ok nmJ33 gcl15 (by decide) in_J33 q1821 rfl rfl rfl (tyJ33_ok 0 (by decide)) (gok_spec hu5) hs6 dJ33_init_11 ?_
  obtain ⟨rfl, rfl⟩ := Prod.mk.inj (Option.some.inj hB)
  exact gw_vret rfl rfl rfl dJ33_init_14
noncomputable def f_J33_init (κ : gK) (F : Nat) (a0 : Option Nat) (a1 : Option Nat) (a2 : Int32) (s : gS) : Option (Unit × gS) := f_J33_init_0 κ F a0 a1 a2 s
theorem m_J33_init {E : gE} {F : Nat} (a0 : Option Nat) (a1 : Option Nat) (a2 : Int32) (s : gS) (r : Unit) (s' : gS) (h : f_J33_init (gk E) F a0 a1 a2 s = some (r, s')) : gCT E 3 yJ33_init (ws_ yJ33_init cJ33_init 3 none) [vR a0, vR a1, vI a2] s (.inl none) s' := by
  refine gCT_of2 (fun h => absurd h (by decide)) (plainFor_of_name (by decide)) (Nat.le_of_ble_eq_true rfl) ?_
  exact gw_sub [0, 1, 2] rfl (w_J33_init_0 _ _ _ _ h)
def dkwJ2_sequencedKeySet_1 : List UInt8 := [44, 176, 43, 192, 0, 126, 176]
abbrev dktJ2_sequencedKeySet_1 : List UInt8 := dkwJ2_sequencedKeySet_1 ++ []
def dkwJ2_sequencedKeySet_0 : List UInt8 := [42, 180, 0, 117, 76, 43, 199, 0, 20, 187, 0, 121, 89, 42, 3, 183, 0, 123, 77, 42, 44, 181, 0, 117]
abbrev dktJ2_sequencedKeySet_0 : List UInt8 := dkwJ2_sequencedKeySet_0 ++ dktJ2_sequencedKeySet_1
theorem dksJ2_sequencedKeySet_0 : cJ2_sequencedKeySet.data.toList.drop 0 = dktJ2_sequencedKeySet_0 := by decide +kernel
theorem dksJ2_sequencedKeySet_1 : cJ2_sequencedKeySet.data.toList.drop 24 = dktJ2_sequencedKeySet_1 := dk_seg dksJ2_sequencedKeySet_0 24 rfl rfl
theorem dJ2_sequencedKeySet_0 : decode cJ2_sequencedKeySet 0 = .ok (.aload_n 0, 1) := dk_42 (dk_at dksJ2_sequencedKeySet_0 0 rfl rfl)
theorem dJ2_sequencedKeySet_1 : decode cJ2_sequencedKeySet 1 = .ok (.getfield 117, 3) := dk_180 0 117 (dk_at dksJ2_sequencedKeySet_0 1 rfl rfl)
theorem dJ2_sequencedKeySet_4 : decode cJ2_sequencedKeySet 4 = .ok (.astore_n 1, 1) := dk_76 (dk_at dksJ2_sequencedKeySet_0 4 rfl rfl)
theorem dJ2_sequencedKeySet_5 : decode cJ2_sequencedKeySet 5 = .ok (.aload_n 1, 1) := dk_43 (dk_at dksJ2_sequencedKeySet_0 5 rfl rfl)
theorem dJ2_sequencedKeySet_6 : decode cJ2_sequencedKeySet 6 = .ok (.ifnonnull 20, 3) := dk_199 0 20 (dk_at dksJ2_sequencedKeySet_0 6 rfl rfl)
theorem dJ2_sequencedKeySet_9 : decode cJ2_sequencedKeySet 9 = .ok (.new 121, 3) := dk_187 0 121 (dk_at dksJ2_sequencedKeySet_0 9 rfl rfl)
theorem dJ2_sequencedKeySet_12 : decode cJ2_sequencedKeySet 12 = .ok (.dup, 1) := dk_89 (dk_at dksJ2_sequencedKeySet_0 12 rfl rfl)
theorem dJ2_sequencedKeySet_13 : decode cJ2_sequencedKeySet 13 = .ok (.aload_n 0, 1) := dk_42 (dk_at dksJ2_sequencedKeySet_0 13 rfl rfl)
theorem dJ2_sequencedKeySet_14 : decode cJ2_sequencedKeySet 14 = .ok (.iconst 0, 1) := dk_3 (dk_at dksJ2_sequencedKeySet_0 14 rfl rfl)
theorem dJ2_sequencedKeySet_15 : decode cJ2_sequencedKeySet 15 = .ok (.invokespecial 123, 3) := dk_183 0 123 (dk_at dksJ2_sequencedKeySet_0 15 rfl rfl)
theorem dJ2_sequencedKeySet_18 : decode cJ2_sequencedKeySet 18 = .ok (.astore_n 2, 1) := dk_77 (dk_at dksJ2_sequencedKeySet_0 18 rfl rfl)
theorem dJ2_sequencedKeySet_19 : decode cJ2_sequencedKeySet 19 = .ok (.aload_n 0, 1) := dk_42 (dk_at dksJ2_sequencedKeySet_0 19 rfl rfl)
theorem dJ2_sequencedKeySet_20 : decode cJ2_sequencedKeySet 20 = .ok (.aload_n 2, 1) := dk_44 (dk_at dksJ2_sequencedKeySet_0 20 rfl rfl)
theorem dJ2_sequencedKeySet_21 : decode cJ2_sequencedKeySet 21 = .ok (.putfield 117, 3) := dk_181 0 117 (dk_at dksJ2_sequencedKeySet_0 21 rfl rfl)
theorem dJ2_sequencedKeySet_24 : decode cJ2_sequencedKeySet 24 = .ok (.aload_n 2, 1) := dk_44 (dk_at dksJ2_sequencedKeySet_1 0 rfl rfl)
theorem dJ2_sequencedKeySet_25 : decode cJ2_sequencedKeySet 25 = .ok (.areturn, 1) := dk_176 (dk_at dksJ2_sequencedKeySet_1 1 rfl rfl)
theorem dJ2_sequencedKeySet_26 : decode cJ2_sequencedKeySet 26 = .ok (.aload_n 1, 1) := dk_43 (dk_at dksJ2_sequencedKeySet_1 2 rfl rfl)
theorem dJ2_sequencedKeySet_27 : decode cJ2_sequencedKeySet 27 = .ok (.checkcast 126, 3) := dk_192 0 126 (dk_at dksJ2_sequencedKeySet_1 3 rfl rfl)
theorem dJ2_sequencedKeySet_30 : decode cJ2_sequencedKeySet 30 = .ok (.areturn, 1) := dk_176 (dk_at dksJ2_sequencedKeySet_1 6 rfl rfl)
/-! java/util/LinkedHashMap.sequencedKeySet()Ljava/util/SequencedSet; -/
abbrev M_J2_sequencedKeySet (z0 n0 : Nat) (s' : gS) : gM := (RJ2, cJ2_sequencedKeySet, 3, (some (FieldType.object "java/util/SequencedSet")), "sequencedKeySet", [], 4, z0, n0, s'.2.1, s'.2.2)
abbrev W_J2_sequencedKeySet (E : gE) (z0 n0 : Nat) (r : (Option Nat)) (s' : gS) (pc : Nat) (L : List (Nat × gV)) (st : List gV) (s : gS) : Prop := gW E (M_J2_sequencedKeySet z0 n0 s') (gQm E (M_J2_sequencedKeySet z0 n0 s') (.inl (some (vR r))) s') pc L st s
noncomputable def f_J2_sequencedKeySet_0 (κ : gK) (F : Nat)  (l0 : Option Nat) (s : gS) : Option ((Option Nat) × gS) :=
  gB1 (gfR s l0 10 6) fun v1 =>
  if v1 = none then
    gB2 (gnw s 15 g0_J33 2) fun v3 s4 =>
    gB1 (gsm v3) fun _ =>
    gB2 (f_J33_init κ F v3 l0 (0 : Int32) s4) fun v6 s5 =>
    gB1 (gpf κ s5 l0 10 6 (va_rf v3)) fun s8 =>
    some (v3, s8)
  else
    gB1 (gcc s v1 15) fun _ =>
    some (v1, s)
set_option maxHeartbeats 4000000 in
theorem w_J2_sequencedKeySet_0 {E : gE} {F z0 n0 : Nat} {r : (Option Nat)} {s' : gS}   : ∀ (l0 : Option Nat)  (s : gS), f_J2_sequencedKeySet_0 (gk E) F  l0 s = some (r, s') → W_J2_sequencedKeySet E z0 n0 r s' 0 [(0, vR l0)] [] s := by
  intro l0 s hB
  unfold f_J2_sequencedKeySet_0 at hB
  refine gw_aload_n 0 rfl dJ2_sequencedKeySet_0 ?_
  obtain ⟨v1, hv1, hB⟩ := gB1_some hB
  refine gw_getfS (C := RJ2) (T := TJ2) (N := 12) (k := 6) gcl10 (by decide) in_J2 q248 q249 (gfR_spec hv1) dJ2_sequencedKeySet_1 ?_
  refine gw_astore_n (L' := [(1, vR v1), (0, vR l0)]) (Nat.le_of_ble_eq_true rfl) rfl dJ2_sequencedKeySet_4 ?_
  refine gw_aload_n 0 rfl dJ2_sequencedKeySet_5 ?_
  refine gw_ifnonnull (tgt := 26) dJ2_sequencedKeySet_6 (by decide) (fun hcnd => ?_) (fun hcnd => ?_)
  · rw [if_neg hcnd] at hB
    refine gw_aload_n 0 rfl dJ2_sequencedKeySet_26 ?_
    obtain ⟨u0, hu2, hB⟩ := gB1_some hB
    refine gw_cast (C := RJ33) gcl15 hu2 q1828 (Or.inr q3138) dJ2_sequencedKeySet_27 ?_
    obtain ⟨rfl, rfl⟩ := Prod.mk.inj (Option.some.inj hB)
    exact gw_aret rfl (Or.inl ⟨_, rfl⟩) rfl rfl dJ2_sequencedKeySet_30
  · rw [if_pos hcnd] at hB
    obtain ⟨v3, s4, hv3, hB⟩ := gB2_some hB
    refine gw_new (C := RJ33) (T := TJ33) (N := 2) tyJ33 tyJ33_ok gcl15 in_J33 q1815 q1816 q152 g0_J33_ok hv3 dJ2_sequencedKeySet_9 ?_
    refine gw_dup rfl dJ2_sequencedKeySet_12 ?_
    refine gw_aload_n 1 rfl dJ2_sequencedKeySet_13 ?_
    refine gw_iconst (v := (0 : Int32)) (by decide) dJ2_sequencedKeySet_14 ?_
    obtain ⟨u0, hu7, hB⟩ := gB1_some hB
    obtain ⟨v6, s5, hv6, hB⟩ := gB2_some hB
    refine gw_callI (y := yJ33_init) (lw_meth q1819) q152 q1817 q1818 rfl hdS_J33_init (gsm_spec hu7) (As := [vR l0, vI (0 : Int32)]) (rest := [vR v3]) (m_J33_init _ _ _ _ _ _ hv6) (Nat.le_of_ble_eq_true rfl) (Nat.le_of_ble_eq_true rfl) rfl (Nat.le_of_ble_eq_true rfl) dJ2_sequencedKeySet_15 (gCont_v ?_)
    refine gw_astore_n (L' := [(2, vR v3), (1, vR v1), (0, vR l0)]) (Nat.le_of_ble_eq_true rfl) rfl dJ2_sequencedKeySet_18 ?_
    refine gw_aload_n 2 rfl dJ2_sequencedKeySet_19 ?_
    refine gw_aload_n 0 rfl dJ2_sequencedKeySet_20 ?_
    obtain ⟨s8, hs8, hB⟩ := gB1_some hB
    refine gw_putfS (C := RJ2) (T := TJ2) (N := 12) (k := 6) tyJ2 tyJ2_ok nmJ2 gcl10 (by decide) in_J2 q248 q249 rfl (tyJ2_ok 6 (by decide)) (gNF_o _ _) hs8 dJ2_sequencedKeySet_21 ?_
    refine gw_aload_n 0 rfl dJ2_sequencedKeySet_24 ?_
    obtain ⟨rfl, rfl⟩ := Prod.mk.inj (Option.some.inj hB)
    exact gw_aret rfl (Or.inl ⟨_, rfl⟩) rfl rfl dJ2_sequencedKeySet_25
noncomputable def f_J2_sequencedKeySet (κ : gK) (F : Nat) (a0 : Option Nat) (s : gS) : Option ((Option Nat) × gS) := f_J2_sequencedKeySet_0 κ F a0 s
theorem m_J2_sequencedKeySet {E : gE} {F : Nat} (a0 : Option Nat) (s : gS) (r : (Option Nat)) (s' : gS) (h : f_J2_sequencedKeySet (gk E) F a0 s = some (r, s')) : gCT E 4 yJ2_sequencedKeySet (ws_ yJ2_sequencedKeySet cJ2_sequencedKeySet 3 (some (FieldType.object "java/util/SequencedSet"))) [vR a0] s (.inl (some (vR r))) s' := by
  refine gCT_of2 (fun h => absurd h (by decide)) (plainFor_of_name (by decide)) (Nat.le_of_ble_eq_true rfl) ?_
  exact gw_sub [0] rfl (w_J2_sequencedKeySet_0 _ _ h)
theorem dJ2_keySet_0 : decode cJ2_keySet 0 = .ok (.aload_n 0, 1) := by decide +kernel
theorem dJ2_keySet_1 : decode cJ2_keySet 1 = .ok (.invokevirtual 113, 3) := by decide +kernel
theorem dJ2_keySet_4 : decode cJ2_keySet 4 = .ok (.areturn, 1) := by decide +kernel
/-! java/util/LinkedHashMap.keySet()Ljava/util/Set; -/
abbrev M_J2_keySet (z0 n0 : Nat) (s' : gS) : gM := (RJ2, cJ2_keySet, 1, (some (FieldType.object "java/util/Set")), "keySet", [], 5, z0, n0, s'.2.1, s'.2.2)
abbrev W_J2_keySet (E : gE) (z0 n0 : Nat) (r : (Option Nat)) (s' : gS) (pc : Nat) (L : List (Nat × gV)) (st : List gV) (s : gS) : Prop := gW E (M_J2_keySet z0 n0 s') (gQm E (M_J2_keySet z0 n0 s') (.inl (some (vR r))) s') pc L st s
noncomputable def f_J2_keySet_0 (κ : gK) (F : Nat)  (l0 : Option Nat) (s : gS) : Option ((Option Nat) × gS) :=
  gB1 (gck s l0 10) fun _ =>
  gB2 (f_J2_sequencedKeySet κ F l0  s) fun v2 s1 =>
  some (v2, s1)
set_option maxHeartbeats 4000000 in
theorem w_J2_keySet_0 {E : gE} {F z0 n0 : Nat} {r : (Option Nat)} {s' : gS}   : ∀ (l0 : Option Nat)  (s : gS), f_J2_keySet_0 (gk E) F  l0 s = some (r, s') → W_J2_keySet E z0 n0 r s' 0 [(0, vR l0)] [] s := by
  intro l0 s hB
  unfold f_J2_keySet_0 at hB
  refine gw_aload_n 0 rfl dJ2_keySet_0 ?_
  obtain ⟨u0, hu3, hB⟩ := gB1_some hB
  obtain ⟨v2, s1, hv2, hB⟩ := gB2_some hB
  refine gw_callV (y := yJ2_sequencedKeySet) (lw_V q1811 q1812 q1813 q114 q1814) hdV_J2_sequencedKeySet gcl10 hu3 (As := []) (rest := []) (m_J2_sequencedKeySet _ _ _ _ hv2) (Nat.le_of_ble_eq_true rfl) (Nat.le_of_ble_eq_true rfl) rfl (Nat.le_of_ble_eq_true rfl) dJ2_keySet_1 (gCont_i ?_)
  obtain ⟨rfl, rfl⟩ := Prod.mk.inj (Option.some.inj hB)
  exact gw_aret rfl (Or.inl ⟨_, rfl⟩) rfl rfl dJ2_keySet_4
noncomputable def f_J2_keySet (κ : gK) (F : Nat) (a0 : Option Nat) (s : gS) : Option ((Option Nat) × gS) := f_J2_keySet_0 κ F a0 s
theorem m_J2_keySet {E : gE} {F : Nat} (a0 : Option Nat) (s : gS) (r : (Option Nat)) (s' : gS) (h : f_J2_keySet (gk E) F a0 s = some (r, s')) : gCT E 5 yJ2_keySet (ws_ yJ2_keySet cJ2_keySet 1 (some (FieldType.object "java/util/Set"))) [vR a0] s (.inl (some (vR r))) s' := by
  refine gCT_of2 (fun h => absurd h (by decide)) (plainFor_of_name (by decide)) (Nat.le_of_ble_eq_true rfl) ?_
  exact gw_sub [0] rfl (w_J2_keySet_0 _ _ h)
def dkwJ36_init_1 : List UInt8 := [167, 0, 7, 43, 180, 0, 23, 181, 0, 26, 42, 43, 180, 0, 29, 181, 0, 33, 42, 1, 181, 0, 36, 177]
abbrev dktJ36_init_1 : List UInt8 := dkwJ36_init_1 ++ []
def dkwJ36_init_0 : List UInt8 := [42, 43, 181, 0, 1, 42, 183, 0, 7, 42, 28, 181, 0, 13, 42, 28, 153, 0, 10, 43, 180, 0, 17]
abbrev dktJ36_init_0 : List UInt8 := dkwJ36_init_0 ++ dktJ36_init_1
theorem dksJ36_init_0 : cJ36_init.data.toList.drop 0 = dktJ36_init_0 := by decide +kernel
theorem dksJ36_init_1 : cJ36_init.data.toList.drop 23 = dktJ36_init_1 := dk_seg dksJ36_init_0 23 rfl rfl
theorem dJ36_init_0 : decode cJ36_init 0 = .ok (.aload_n 0, 1) := dk_42 (dk_at dksJ36_init_0 0 rfl rfl)
theorem dJ36_init_1 : decode cJ36_init 1 = .ok (.aload_n 1, 1) := dk_43 (dk_at dksJ36_init_0 1 rfl rfl)
theorem dJ36_init_2 : decode cJ36_init 2 = .ok (.putfield 1, 3) := dk_181 0 1 (dk_at dksJ36_init_0 2 rfl rfl)
theorem dJ36_init_5 : decode cJ36_init 5 = .ok (.aload_n 0, 1) := dk_42 (dk_at dksJ36_init_0 5 rfl rfl)
theorem dJ36_init_6 : decode cJ36_init 6 = .ok (.invokespecial 7, 3) := dk_183 0 7 (dk_at dksJ36_init_0 6 rfl rfl)
theorem dJ36_init_9 : decode cJ36_init 9 = .ok (.aload_n 0, 1) := dk_42 (dk_at dksJ36_init_0 9 rfl rfl)
theorem dJ36_init_10 : decode cJ36_init 10 = .ok (.iload_n 2, 1) := dk_28 (dk_at dksJ36_init_0 10 rfl rfl)
theorem dJ36_init_11 : decode cJ36_init 11 = .ok (.putfield 13, 3) := dk_181 0 13 (dk_at dksJ36_init_0 11 rfl rfl)
theorem dJ36_init_14 : decode cJ36_init 14 = .ok (.aload_n 0, 1) := dk_42 (dk_at dksJ36_init_0 14 rfl rfl)
theorem dJ36_init_15 : decode cJ36_init 15 = .ok (.iload_n 2, 1) := dk_28 (dk_at dksJ36_init_0 15 rfl rfl)
theorem dJ36_init_16 : decode cJ36_init 16 = .ok (.ifCond .eq 10, 3) := dk_153 0 10 (dk_at dksJ36_init_0 16 rfl rfl)
theorem dJ36_init_19 : decode cJ36_init 19 = .ok (.aload_n 1, 1) := dk_43 (dk_at dksJ36_init_0 19 rfl rfl)
theorem dJ36_init_20 : decode cJ36_init 20 = .ok (.getfield 17, 3) := dk_180 0 17 (dk_at dksJ36_init_0 20 rfl rfl)
theorem dJ36_init_23 : decode cJ36_init 23 = .ok (.goto 7, 3) := dk_167 0 7 (dk_at dksJ36_init_1 0 rfl rfl)
theorem dJ36_init_26 : decode cJ36_init 26 = .ok (.aload_n 1, 1) := dk_43 (dk_at dksJ36_init_1 3 rfl rfl)
theorem dJ36_init_27 : decode cJ36_init 27 = .ok (.getfield 23, 3) := dk_180 0 23 (dk_at dksJ36_init_1 4 rfl rfl)
theorem dJ36_init_30 : decode cJ36_init 30 = .ok (.putfield 26, 3) := dk_181 0 26 (dk_at dksJ36_init_1 7 rfl rfl)
theorem dJ36_init_33 : decode cJ36_init 33 = .ok (.aload_n 0, 1) := dk_42 (dk_at dksJ36_init_1 10 rfl rfl)
theorem dJ36_init_34 : decode cJ36_init 34 = .ok (.aload_n 1, 1) := dk_43 (dk_at dksJ36_init_1 11 rfl rfl)
theorem dJ36_init_35 : decode cJ36_init 35 = .ok (.getfield 29, 3) := dk_180 0 29 (dk_at dksJ36_init_1 12 rfl rfl)
theorem dJ36_init_38 : decode cJ36_init 38 = .ok (.putfield 33, 3) := dk_181 0 33 (dk_at dksJ36_init_1 15 rfl rfl)
theorem dJ36_init_41 : decode cJ36_init 41 = .ok (.aload_n 0, 1) := dk_42 (dk_at dksJ36_init_1 18 rfl rfl)
theorem dJ36_init_42 : decode cJ36_init 42 = .ok (.aconst_null, 1) := dk_1 (dk_at dksJ36_init_1 19 rfl rfl)
theorem dJ36_init_43 : decode cJ36_init 43 = .ok (.putfield 36, 3) := dk_181 0 36 (dk_at dksJ36_init_1 20 rfl rfl)
theorem dJ36_init_46 : decode cJ36_init 46 = .ok (.return_, 1) := dk_177 (dk_at dksJ36_init_1 23 rfl rfl)
/-! java/util/LinkedHashMap$LinkedHashIterator.<init>(Ljava/util/LinkedHashMap;Z)V -/
abbrev M_J36_init (z0 n0 : Nat) (s' : gS) : gM := (RJ36, cJ36_init, 3, none, "<init>", [], 1, z0, n0, s'.2.1, s'.2.2)
abbrev W_J36_init (E : gE) (z0 n0 : Nat) (r : Unit) (s' : gS) (pc : Nat) (L : List (Nat × gV)) (st : List gV) (s : gS) : Prop := gW E (M_J36_init z0 n0 s') (gQm E (M_J36_init z0 n0 s') (.inl none) s') pc L st s
noncomputable def f_J36_init_30 (κ : gK) (F : Nat)  (l0 : Option Nat) (l1 : Option Nat) (t0 : Option Nat) (t1 : Option Nat) (s : gS) : Option (Unit × gS) :=
  gB1 (gpf κ s t0 14 0 (va_rf t1)) fun s1 =>
  gB1 (gfI s1 l1 10 3) fun v2 =>
  gB1 (gpf κ s1 l0 14 2 (.int v2)) fun s3 =>
  gB1 (gpf κ s3 l0 14 1 (va_rf none)) fun s4 =>
  some ((), s4)
set_option maxHeartbeats 4000000 in
theorem w_J36_init_30 {E : gE} {F z0 n0 : Nat} {r : Unit} {s' : gS}   : ∀ (l0 : Option Nat) (l1 : Option Nat) (t0 : Option Nat) (t1 : Option Nat) (s : gS), f_J36_init_30 (gk E) F  l0 l1 t0 t1 s = some (r, s') → W_J36_init E z0 n0 r s' 30 [(0, vR l0), (1, vR l1)] [vR t1, vR t0] s := by
  intro l0 l1 t0 t1 s hB
  unfold f_J36_init_30 at hB
  obtain ⟨s1, hs1, hB⟩ := gB1_some hB
  refine gw_putf (C := RJ37) (T := TJ37) (N := 5) (k := 0) tyJ37 tyJ37_ok nmJ37 gcl14 (by decide) in_J37 q1880 rfl (tyJ37_ok 0 (by decide)) (gNF_o _ _) hs1 dJ36_init_30 ?_
  refine gw_aload_n 0 rfl dJ36_init_33 ?_
  refine gw_aload_n 1 rfl dJ36_init_34 ?_
  obtain ⟨v2, hv2, hB⟩ := gB1_some hB
  refine gw_getfS (C := RJ2) (T := TJ2) (N := 12) (k := 3) gcl10 (by decide) in_J2 q240 q241 (gfI_spec hv2) dJ36_init_35 ?_
  obtain ⟨s3, hs3, hB⟩ := gB1_some hB
  refine gw_putf (C := RJ37) (T := TJ37) (N := 5) (k := 2) tyJ37 tyJ37_ok nmJ37 gcl14 (by decide) in_J37 q1882 rfl (tyJ37_ok 2 (by decide)) (gNF_i _) hs3 dJ36_init_38 ?_
  refine gw_aload_n 0 rfl dJ36_init_41 ?_
  refine gw_null dJ36_init_42 ?_
  obtain ⟨s4, hs4, hB⟩ := gB1_some hB
  refine gw_putf (C := RJ37) (T := TJ37) (N := 5) (k := 1) tyJ37 tyJ37_ok nmJ37 gcl14 (by decide) in_J37 q1881 rfl (tyJ37_ok 1 (by decide)) (gNF_o _ _) hs4 dJ36_init_43 ?_
  obtain ⟨rfl, rfl⟩ := Prod.mk.inj (Option.some.inj hB)
  exact gw_vret rfl rfl rfl dJ36_init_46
noncomputable def f_J36_init_0 (κ : gK) (F : Nat)  (l0 : Option Nat) (l1 : Option Nat) (l2 : Int32) (s : gS) : Option (Unit × gS) :=
  gB1 (gpf κ s l0 14 4 (va_rf l1)) fun s1 =>
  gB1 (gsm l0) fun _ =>
  gB1 (gok .boolean l2) fun _ =>
  gB1 (gpf κ s1 l0 14 3 (.int l2)) fun s4 =>
  if l2 = 0 then
    gB1 (gfR s4 l1 10 8) fun v5 =>
    f_J36_init_30 κ F  l0 l1 l0 v5 s4
  else
    gB1 (gfR s4 l1 10 9) fun v6 =>
    f_J36_init_30 κ F  l0 l1 l0 v6 s4
set_option maxHeartbeats 4000000 in
theorem w_J36_init_0 {E : gE} {F z0 n0 : Nat} {r : Unit} {s' : gS}   : ∀ (l0 : Option Nat) (l1 : Option Nat) (l2 : Int32)  (s : gS), f_J36_init_0 (gk E) F  l0 l1 l2 s = some (r, s') → W_J36_init E z0 n0 r s' 0 [(0, vR l0), (1, vR l1), (2, vI l2)] [] s := by
  intro l0 l1 l2 s hB
  unfold f_J36_init_0 at hB
  refine gw_aload_n 0 rfl dJ36_init_0 ?_
  refine gw_aload_n 1 rfl dJ36_init_1 ?_
  obtain ⟨s1, hs1, hB⟩ := gB1_some hB
  refine gw_putfF (C := RJ37) (T := TJ37) (N := 5) (k := 4) tyJ37 tyJ37_ok nmJ37 gcl14 (by decide) in_J37 q1884 rfl rfl rfl (tyJ37_ok 4 (by decide)) (gNF_o _ _) hs1 dJ36_init_2 ?_
  refine gw_aload_n 0 rfl dJ36_init_5 ?_
  obtain ⟨u0, hu2, hB⟩ := gB1_some hB
  refine gw_objInit (gsm_spec hu2) q1879 q172 q173 (Nat.le_of_ble_eq_true rfl) (Nat.le_of_ble_eq_true rfl) dJ36_init_6 ?_
  refine gw_aload_n 0 rfl dJ36_init_9 ?_
  refine gw_iload_n 2 rfl dJ36_init_10 ?_
  obtain ⟨u0, hu3, hB⟩ := gB1_some hB
  obtain ⟨s4, hs4, hB⟩ := gB1_some hB
  refine gw_putf (C := RJ37) (T := TJ37) (N := 5) (k := 3) tyJ37 tyJ37_ok nmJ37 gcl14 (by decide) in_J37 q1883 rfl (tyJ37_ok 3 (by decide)) (gok_spec hu3) hs4 dJ36_init_11 ?_
  refine gw_aload_n 0 rfl dJ36_init_14 ?_
  refine gw_iload_n 2 rfl dJ36_init_15 ?_
  refine gw_if_eq (tgt := 26) dJ36_init_16 (by decide) (fun hcnd => ?_) (fun hcnd => ?_)
  · rw [if_pos hcnd] at hB
    refine gw_aload_n 1 rfl dJ36_init_26 ?_
    obtain ⟨v5, hv5, hB⟩ := gB1_some hB
    refine gw_getf (C := RJ2) (T := TJ2) (N := 12) (k := 8) gcl10 (by decide) in_J2 q230 (gfR_spec hv5) dJ36_init_27 ?_
    exact gw_sub [0, 1] rfl (w_J36_init_30  _ _ _ _ _ hB)
  · rw [if_neg hcnd] at hB
    refine gw_aload_n 1 rfl dJ36_init_19 ?_
    obtain ⟨v6, hv6, hB⟩ := gB1_some hB
    refine gw_getf (C := RJ2) (T := TJ2) (N := 12) (k := 9) gcl10 (by decide) in_J2 q231 (gfR_spec hv6) dJ36_init_20 ?_
    refine gw_goto (tgt := 30) dJ36_init_23 (by decide) ?_
    exact gw_sub [0, 1] rfl (w_J36_init_30  _ _ _ _ _ hB)
noncomputable def f_J36_init (κ : gK) (F : Nat) (a0 : Option Nat) (a1 : Option Nat) (a2 : Int32) (s : gS) : Option (Unit × gS) := f_J36_init_0 κ F a0 a1 a2 s
theorem m_J36_init {E : gE} {F : Nat} (a0 : Option Nat) (a1 : Option Nat) (a2 : Int32) (s : gS) (r : Unit) (s' : gS) (h : f_J36_init (gk E) F a0 a1 a2 s = some (r, s')) : gCT E 1 yJ36_init (ws_ yJ36_init cJ36_init 3 none) [vR a0, vR a1, vI a2] s (.inl none) s' := by
  refine gCT_of2 (fun h => absurd h (by decide)) (plainFor_of_name (by decide)) (Nat.le_of_ble_eq_true rfl) ?_
  exact gw_sub [0, 1, 2] rfl (w_J36_init_0 _ _ _ _ h)
def dkwJ37_init_0 : List UInt8 := [42, 43, 28, 183, 0, 1, 177]
abbrev dktJ37_init_0 : List UInt8 := dkwJ37_init_0 ++ []
theorem dksJ37_init_0 : cJ37_init.data.toList.drop 0 = dktJ37_init_0 := by decide +kernel
theorem dJ37_init_0 : decode cJ37_init 0 = .ok (.aload_n 0, 1) := dk_42 (dk_at dksJ37_init_0 0 rfl rfl)
theorem dJ37_init_1 : decode cJ37_init 1 = .ok (.aload_n 1, 1) := dk_43 (dk_at dksJ37_init_0 1 rfl rfl)
theorem dJ37_init_2 : decode cJ37_init 2 = .ok (.iload_n 2, 1) := dk_28 (dk_at dksJ37_init_0 2 rfl rfl)
theorem dJ37_init_3 : decode cJ37_init 3 = .ok (.invokespecial 1, 3) := dk_183 0 1 (dk_at dksJ37_init_0 3 rfl rfl)
theorem dJ37_init_6 : decode cJ37_init 6 = .ok (.return_, 1) := dk_177 (dk_at dksJ37_init_0 6 rfl rfl)
/-! java/util/LinkedHashMap$LinkedKeyIterator.<init>(Ljava/util/LinkedHashMap;Z)V -/
abbrev M_J37_init (z0 n0 : Nat) (s' : gS) : gM := (RJ37, cJ37_init, 3, none, "<init>", [], 2, z0, n0, s'.2.1, s'.2.2)
abbrev W_J37_init (E : gE) (z0 n0 : Nat) (r : Unit) (s' : gS) (pc : Nat) (L : List (Nat × gV)) (st : List gV) (s : gS) : Prop := gW E (M_J37_init z0 n0 s') (gQm E (M_J37_init z0 n0 s') (.inl none) s') pc L st s
noncomputable def f_J37_init_0 (κ : gK) (F : Nat)  (l0 : Option Nat) (l1 : Option Nat) (l2 : Int32) (s : gS) : Option (Unit × gS) :=
  gB1 (gsm l0) fun _ =>
  gB2 (f_J36_init κ F l0 l1 l2 s) fun v2 s1 =>
  some ((), s1)
set_option maxHeartbeats 4000000 in
theorem w_J37_init_0 {E : gE} {F z0 n0 : Nat} {r : Unit} {s' : gS}   : ∀ (l0 : Option Nat) (l1 : Option Nat) (l2 : Int32)  (s : gS), f_J37_init_0 (gk E) F  l0 l1 l2 s = some (r, s') → W_J37_init E z0 n0 r s' 0 [(0, vR l0), (1, vR l1), (2, vI l2)] [] s := by
  intro l0 l1 l2 s hB
  unfold f_J37_init_0 at hB
  refine gw_aload_n 0 rfl dJ37_init_0 ?_
  refine gw_aload_n 1 rfl dJ37_init_1 ?_
  refine gw_iload_n 2 rfl dJ37_init_2 ?_
  obtain ⟨u0, hu3, hB⟩ := gB1_some hB
  obtain ⟨v2, s1, hv2, hB⟩ := gB2_some hB
  refine gw_callI (y := yJ36_init) (lw_meth q1878) q155 q1876 q1877 rfl hdS_J36_init (gsm_spec hu3) (As := [vR l1, vI l2]) (rest := []) (m_J36_init _ _ _ _ _ _ hv2) (Nat.le_of_ble_eq_true rfl) (Nat.le_of_ble_eq_true rfl) rfl (Nat.le_of_ble_eq_true rfl) dJ37_init_3 (gCont_v ?_)
  obtain ⟨rfl, rfl⟩ := Prod.mk.inj (Option.some.inj hB)
  exact gw_vret rfl rfl rfl dJ37_init_6
noncomputable def f_J37_init (κ : gK) (F : Nat) (a0 : Option Nat) (a1 : Option Nat) (a2 : Int32) (s : gS) : Option (Unit × gS) := f_J37_init_0 κ F a0 a1 a2 s
theorem m_J37_init {E : gE} {F : Nat} (a0 : Option Nat) (a1 : Option Nat) (a2 : Int32) (s : gS) (r : Unit) (s' : gS) (h : f_J37_init (gk E) F a0 a1 a2 s = some (r, s')) : gCT E 2 yJ37_init (ws_ yJ37_init cJ37_init 3 none) [vR a0, vR a1, vI a2] s (.inl none) s' := by
  refine gCT_of2 (fun h => absurd h (by decide)) (plainFor_of_name (by decide)) (Nat.le_of_ble_eq_true rfl) ?_
  exact gw_sub [0, 1, 2] rfl (w_J37_init_0 _ _ _ _ h)
def dkwJ33_iterator_0 : List UInt8 := [187, 0, 26, 89, 42, 180, 0, 1, 42, 180, 0, 13, 183, 0, 28, 176]
abbrev dktJ33_iterator_0 : List UInt8 := dkwJ33_iterator_0 ++ []
theorem dksJ33_iterator_0 : cJ33_iterator.data.toList.drop 0 = dktJ33_iterator_0 := by decide +kernel
theorem dJ33_iterator_0 : decode cJ33_iterator 0 = .ok (.new 26, 3) := dk_187 0 26 (dk_at dksJ33_iterator_0 0 rfl rfl)
theorem dJ33_iterator_3 : decode cJ33_iterator 3 = .ok (.dup, 1) := dk_89 (dk_at dksJ33_iterator_0 3 rfl rfl)
theorem dJ33_iterator_4 : decode cJ33_iterator 4 = .ok (.aload_n 0, 1) := dk_42 (dk_at dksJ33_iterator_0 4 rfl rfl)
theorem dJ33_iterator_5 : decode cJ33_iterator 5 = .ok (.getfield 1, 3) := dk_180 0 1 (dk_at dksJ33_iterator_0 5 rfl rfl)
theorem dJ33_iterator_8 : decode cJ33_iterator 8 = .ok (.aload_n 0, 1) := dk_42 (dk_at dksJ33_iterator_0 8 rfl rfl)
theorem dJ33_iterator_9 : decode cJ33_iterator 9 = .ok (.getfield 13, 3) := dk_180 0 13 (dk_at dksJ33_iterator_0 9 rfl rfl)
theorem dJ33_iterator_12 : decode cJ33_iterator 12 = .ok (.invokespecial 28, 3) := dk_183 0 28 (dk_at dksJ33_iterator_0 12 rfl rfl)
theorem dJ33_iterator_15 : decode cJ33_iterator 15 = .ok (.areturn, 1) := dk_176 (dk_at dksJ33_iterator_0 15 rfl rfl)
/-! java/util/LinkedHashMap$LinkedKeySet.iterator()Ljava/util/Iterator; -/
abbrev M_J33_iterator (z0 n0 : Nat) (s' : gS) : gM := (RJ33, cJ33_iterator, 1, (some (FieldType.object "java/util/Iterator")), "iterator", [], 3, z0, n0, s'.2.1, s'.2.2)
abbrev W_J33_iterator (E : gE) (z0 n0 : Nat) (r : (Option Nat)) (s' : gS) (pc : Nat) (L : List (Nat × gV)) (st : List gV) (s : gS) : Prop := gW E (M_J33_iterator z0 n0 s') (gQm E (M_J33_iterator z0 n0 s') (.inl (some (vR r))) s') pc L st s
noncomputable def f_J33_iterator_0 (κ : gK) (F : Nat)  (l0 : Option Nat) (s : gS) : Option ((Option Nat) × gS) :=
  gB2 (gnw s 14 g0_J37 5) fun v1 s2 =>
  gB1 (gfR s2 l0 15 1) fun v3 =>
  gB1 (gfI s2 l0 15 0) fun v4 =>
  gB1 (gsm v1) fun _ =>
  gB2 (f_J37_init κ F v1 v3 v4 s2) fun v6 s5 =>
  some (v1, s5)
set_option maxHeartbeats 4000000 in
theorem w_J33_iterator_0 {E : gE} {F z0 n0 : Nat} {r : (Option Nat)} {s' : gS}   : ∀ (l0 : Option Nat)  (s : gS), f_J33_iterator_0 (gk E) F  l0 s = some (r, s') → W_J33_iterator E z0 n0 r s' 0 [(0, vR l0)] [] s := by
  intro l0 s hB
  unfold f_J33_iterator_0 at hB
  obtain ⟨v1, s2, hv1, hB⟩ := gB2_some hB
  refine gw_new (C := RJ37) (T := TJ37) (N := 5) tyJ37 tyJ37_ok gcl14 in_J37 q1871 q1872 q156 g0_J37_ok hv1 dJ33_iterator_0 ?_
  refine gw_dup rfl dJ33_iterator_3 ?_
  refine gw_aload_n 0 rfl dJ33_iterator_4 ?_
  obtain ⟨v3, hv3, hB⟩ := gB1_some hB
  refine gw_getf (C := RJ33) (T := TJ33) (N := 2) (k := 1) gcl15 (by decide) in_J33 q1822 (gfR_spec hv3) dJ33_iterator_5 ?_
  refine gw_aload_n 0 rfl dJ33_iterator_8 ?_
  obtain ⟨v4, hv4, hB⟩ := gB1_some hB
  refine gw_getf (C := RJ33) (T := TJ33) (N := 2) (k := 0) gcl15 (by decide) in_J33 q1821 (gfI_spec hv4) dJ33_iterator_9 ?_
  obtain ⟨u0, hu7, hB⟩ := gB1_some hB
  obtain ⟨v6, s5, hv6, hB⟩ := gB2_some hB
  refine gw_callI (y := yJ37_init) (lw_meth q1875) q156 q1873 q1874 rfl hdS_J37_init (gsm_spec hu7) (As := [vR v3, vI v4]) (rest := [vR v1]) (m_J37_init _ _ _ _ _ _ hv6) (Nat.le_of_ble_eq_true rfl) (Nat.le_of_ble_eq_true rfl) rfl (Nat.le_of_ble_eq_true rfl) dJ33_iterator_12 (gCont_v ?_)
  obtain ⟨rfl, rfl⟩ := Prod.mk.inj (Option.some.inj hB)
  exact gw_aret rfl (Or.inl ⟨_, rfl⟩) rfl rfl dJ33_iterator_15
noncomputable def f_J33_iterator (κ : gK) (F : Nat) (a0 : Option Nat) (s : gS) : Option ((Option Nat) × gS) := f_J33_iterator_0 κ F a0 s
theorem m_J33_iterator {E : gE} {F : Nat} (a0 : Option Nat) (s : gS) (r : (Option Nat)) (s' : gS) (h : f_J33_iterator (gk E) F a0 s = some (r, s')) : gCT E 3 yJ33_iterator (ws_ yJ33_iterator cJ33_iterator 1 (some (FieldType.object "java/util/Iterator"))) [vR a0] s (.inl (some (vR r))) s' := by
  refine gCT_of2 (fun h => absurd h (by decide)) (plainFor_of_name (by decide)) (Nat.le_of_ble_eq_true rfl) ?_
  exact gw_sub [0] rfl (w_J33_iterator_0 _ _ h)
def dkwJ27_iterator_0 : List UInt8 := [42, 180, 0, 10, 182, 0, 45, 185, 0, 49, 1, 0, 176]
abbrev dktJ27_iterator_0 : List UInt8 := dkwJ27_iterator_0 ++ []
theorem dksJ27_iterator_0 : cJ27_iterator.data.toList.drop 0 = dktJ27_iterator_0 := by decide +kernel
theorem dJ27_iterator_0 : decode cJ27_iterator 0 = .ok (.aload_n 0, 1) := dk_42 (dk_at dksJ27_iterator_0 0 rfl rfl)
theorem dJ27_iterator_1 : decode cJ27_iterator 1 = .ok (.getfield 10, 3) := dk_180 0 10 (dk_at dksJ27_iterator_0 1 rfl rfl)
theorem dJ27_iterator_4 : decode cJ27_iterator 4 = .ok (.invokevirtual 45, 3) := dk_182 0 45 (dk_at dksJ27_iterator_0 4 rfl rfl)
theorem dJ27_iterator_7 : decode cJ27_iterator 7 = .ok (.invokeinterface 49 1, 5) := by decide +kernel
theorem dJ27_iterator_12 : decode cJ27_iterator 12 = .ok (.areturn, 1) := dk_176 (dk_at dksJ27_iterator_0 12 rfl rfl)
/-! java/util/HashSet.iterator()Ljava/util/Iterator; -/
abbrev M_J27_iterator (z0 n0 : Nat) (s' : gS) : gM := (RJ27, cJ27_iterator, 1, (some (FieldType.object "java/util/Iterator")), "iterator", [], 6, z0, n0, s'.2.1, s'.2.2)
abbrev W_J27_iterator (E : gE) (z0 n0 : Nat) (r : (Option Nat)) (s' : gS) (pc : Nat) (L : List (Nat × gV)) (st : List gV) (s : gS) : Prop := gW E (M_J27_iterator z0 n0 s') (gQm E (M_J27_iterator z0 n0 s') (.inl (some (vR r))) s') pc L st s
noncomputable def f_J27_iterator_0 (κ : gK) (F : Nat)  (l0 : Option Nat) (s : gS) : Option ((Option Nat) × gS) :=
  gB1 (gfR s l0 12 0) fun v1 =>
  gB1 (gck s v1 10) fun _ =>
  gB2 (f_J2_keySet κ F v1  s) fun v3 s2 =>
  gB1 (gck s2 v3 15) fun _ =>
  gB2 (f_J33_iterator κ F v3  s2) fun v6 s5 =>
  some (v6, s5)
set_option maxHeartbeats 4000000 in
theorem w_J27_iterator_0 {E : gE} {F z0 n0 : Nat} {r : (Option Nat)} {s' : gS}   : ∀ (l0 : Option Nat)  (s : gS), f_J27_iterator_0 (gk E) F  l0 s = some (r, s') → W_J27_iterator E z0 n0 r s' 0 [(0, vR l0)] [] s := by
  intro l0 s hB
  unfold f_J27_iterator_0 at hB
  refine gw_aload_n 0 rfl dJ27_iterator_0 ?_
  obtain ⟨v1, hv1, hB⟩ := gB1_some hB
  refine gw_getf (C := RJ28) (T := TJ28) (N := 1) (k := 0) gcl12 (by decide) in_J28 q1781 (gfR_spec hv1) dJ27_iterator_1 ?_
  obtain ⟨u0, hu4, hB⟩ := gB1_some hB
  obtain ⟨v3, s2, hv3, hB⟩ := gB2_some hB
  refine gw_callA (C := "java/util/LinkedHashMap") (owner := "java/util/HashMap") (x := ⟨"java/util/HashMap", "keySet", "()Ljava/util/Set;"⟩) (y := yJ2_keySet) (lw_app (lw_in (([Cond.methodLink "java/util/HashSet" 45 ⟨"java/util/HashMap", "keySet", "()Ljava/util/Set;"⟩, Cond.sameMethod "java/util/HashMap" "java/util/HashMap" "keySet" "()Ljava/util/Set;", Cond.selects "java/util/LinkedHashMap" ⟨"java/util/HashMap", "keySet", "()Ljava/util/Set;"⟩ yJ2_keySet, Cond.instanceMethod yJ2_keySet, Cond.initialized "java/util/LinkedHashMap"] : List Cond)) [1805, 1807, 1808, 1809, 114] (by decide +kernel) (by decide +kernel)) (lw_meth q1810)) q1829 (show _ ∧ _ ∧ _ = some 0 from by decide +kernel) gcl10 hu4 (As := []) (rest := []) (m_J2_keySet _ _ _ _ hv3) (Nat.le_of_ble_eq_true rfl) (Nat.le_of_ble_eq_true rfl) rfl (Nat.le_of_ble_eq_true rfl) dJ27_iterator_4 (gCont_i ?_)
  obtain ⟨u0, hu7, hB⟩ := gB1_some hB
  obtain ⟨v6, s5, hv6, hB⟩ := gB2_some hB
  refine gw_callF (C := "java/util/LinkedHashMap$LinkedKeySet") (x := ⟨"java/util/Set", "iterator", "()Ljava/util/Iterator;"⟩) (y := yJ33_iterator) (lw_app (lw_in (([Cond.methodLink "java/util/HashSet" 49 ⟨"java/util/Set", "iterator", "()Ljava/util/Iterator;"⟩, Cond.selects "java/util/LinkedHashMap$LinkedKeySet" ⟨"java/util/Set", "iterator", "()Ljava/util/Iterator;"⟩ yJ33_iterator, Cond.instanceMethod yJ33_iterator, Cond.initialized yJ33_iterator.cls] : List Cond)) [1831, 1866, 1868, 152] (by decide +kernel) (by decide +kernel)) (lw_meth q1870)) q1833 q1832 q1869 q1867 q1865 (show _ ∧ _ ∧ _ = some 0 from by decide +kernel) gcl15 hu7 (As := []) (rest := []) (m_J33_iterator _ _ _ _ hv6) (Nat.le_of_ble_eq_true rfl) (Nat.le_of_ble_eq_true rfl) rfl (Nat.le_of_ble_eq_true rfl) dJ27_iterator_7 (gCont_i ?_)
  obtain ⟨rfl, rfl⟩ := Prod.mk.inj (Option.some.inj hB)
  exact gw_aret rfl (Or.inl ⟨_, rfl⟩) rfl rfl dJ27_iterator_12
noncomputable def f_J27_iterator (κ : gK) (F : Nat) (a0 : Option Nat) (s : gS) : Option ((Option Nat) × gS) := f_J27_iterator_0 κ F a0 s
theorem m_J27_iterator {E : gE} {F : Nat} (a0 : Option Nat) (s : gS) (r : (Option Nat)) (s' : gS) (h : f_J27_iterator (gk E) F a0 s = some (r, s')) : gCT E 6 yJ27_iterator (ws_ yJ27_iterator cJ27_iterator 1 (some (FieldType.object "java/util/Iterator"))) [vR a0] s (.inl (some (vR r))) s' := by
  refine gCT_of2 (fun h => absurd h (by decide)) (plainFor_of_name (by decide)) (Nat.le_of_ble_eq_true rfl) ?_
  exact gw_sub [0] rfl (w_J27_iterator_0 _ _ h)
def dkwJ36_hasNext_0 : List UInt8 := [42, 180, 0, 26, 198, 0, 7, 4, 167, 0, 4, 3, 172]
abbrev dktJ36_hasNext_0 : List UInt8 := dkwJ36_hasNext_0 ++ []
theorem dksJ36_hasNext_0 : cJ36_hasNext.data.toList.drop 0 = dktJ36_hasNext_0 := by decide +kernel
theorem dJ36_hasNext_0 : decode cJ36_hasNext 0 = .ok (.aload_n 0, 1) := dk_42 (dk_at dksJ36_hasNext_0 0 rfl rfl)
theorem dJ36_hasNext_1 : decode cJ36_hasNext 1 = .ok (.getfield 26, 3) := dk_180 0 26 (dk_at dksJ36_hasNext_0 1 rfl rfl)
theorem dJ36_hasNext_4 : decode cJ36_hasNext 4 = .ok (.ifnull 7, 3) := dk_198 0 7 (dk_at dksJ36_hasNext_0 4 rfl rfl)
theorem dJ36_hasNext_7 : decode cJ36_hasNext 7 = .ok (.iconst 1, 1) := dk_4 (dk_at dksJ36_hasNext_0 7 rfl rfl)
theorem dJ36_hasNext_8 : decode cJ36_hasNext 8 = .ok (.goto 4, 3) := dk_167 0 4 (dk_at dksJ36_hasNext_0 8 rfl rfl)
theorem dJ36_hasNext_11 : decode cJ36_hasNext 11 = .ok (.iconst 0, 1) := dk_3 (dk_at dksJ36_hasNext_0 11 rfl rfl)
theorem dJ36_hasNext_12 : decode cJ36_hasNext 12 = .ok (.ireturn, 1) := dk_172 (dk_at dksJ36_hasNext_0 12 rfl rfl)
/-! java/util/LinkedHashMap$LinkedHashIterator.hasNext()Z -/
abbrev M_J36_hasNext (z0 n0 : Nat) (s' : gS) : gM := (RJ36, cJ36_hasNext, 1, (some FieldType.boolean), "hasNext", [], 1, z0, n0, s'.2.1, s'.2.2)
abbrev W_J36_hasNext (E : gE) (z0 n0 : Nat) (r : Int32) (s' : gS) (pc : Nat) (L : List (Nat × gV)) (st : List gV) (s : gS) : Prop := gW E (M_J36_hasNext z0 n0 s') (gQm E (M_J36_hasNext z0 n0 s') (.inl (some (vI r))) s') pc L st s
noncomputable def f_J36_hasNext_12 (κ : gK) (F : Nat)  (t0 : Int32) (s : gS) : Option (Int32 × gS) :=
  gB1 (gok .boolean t0) fun _ => some (t0, s)
set_option maxHeartbeats 4000000 in
theorem w_J36_hasNext_12 {E : gE} {F z0 n0 : Nat} {r : Int32} {s' : gS}   : ∀  (t0 : Int32) (s : gS), f_J36_hasNext_12 (gk E) F  t0 s = some (r, s') → W_J36_hasNext E z0 n0 r s' 12 [] [vI t0] s := by
  intro t0 s hB
  unfold f_J36_hasNext_12 at hB
  obtain ⟨u, hu, hB⟩ := gB1_some hB
  obtain ⟨rfl, rfl⟩ := Prod.mk.inj (Option.some.inj hB)
  exact gw_zret rfl hu rfl rfl dJ36_hasNext_12
noncomputable def f_J36_hasNext_0 (κ : gK) (F : Nat)  (l0 : Option Nat) (s : gS) : Option (Int32 × gS) :=
  gB1 (gfR s l0 14 0) fun v1 =>
  if v1 = none then
    f_J36_hasNext_12 κ F  (0 : Int32) s
  else
    f_J36_hasNext_12 κ F  (1 : Int32) s
set_option maxHeartbeats 4000000 in
theorem w_J36_hasNext_0 {E : gE} {F z0 n0 : Nat} {r : Int32} {s' : gS}   : ∀ (l0 : Option Nat)  (s : gS), f_J36_hasNext_0 (gk E) F  l0 s = some (r, s') → W_J36_hasNext E z0 n0 r s' 0 [(0, vR l0)] [] s := by
  intro l0 s hB
  unfold f_J36_hasNext_0 at hB
  refine gw_aload_n 0 rfl dJ36_hasNext_0 ?_
  obtain ⟨v1, hv1, hB⟩ := gB1_some hB
  refine gw_getf (C := RJ37) (T := TJ37) (N := 5) (k := 0) gcl14 (by decide) in_J37 q1880 (gfR_spec hv1) dJ36_hasNext_1 ?_
  refine gw_ifnull (tgt := 11) dJ36_hasNext_4 (by decide) (fun hcnd => ?_) (fun hcnd => ?_)
  · rw [if_pos hcnd] at hB
    refine gw_iconst (v := (0 : Int32)) (by decide) dJ36_hasNext_11 ?_
    exact gw_sub [] rfl (w_J36_hasNext_12  _ _ hB)
  · rw [if_neg hcnd] at hB
    refine gw_iconst (v := (1 : Int32)) (by decide) dJ36_hasNext_7 ?_
    refine gw_goto (tgt := 12) dJ36_hasNext_8 (by decide) ?_
    exact gw_sub [] rfl (w_J36_hasNext_12  _ _ hB)
noncomputable def f_J36_hasNext (κ : gK) (F : Nat) (a0 : Option Nat) (s : gS) : Option (Int32 × gS) := f_J36_hasNext_0 κ F a0 s
theorem m_J36_hasNext {E : gE} {F : Nat} (a0 : Option Nat) (s : gS) (r : Int32) (s' : gS) (h : f_J36_hasNext (gk E) F a0 s = some (r, s')) : gCT E 1 yJ36_hasNext (ws_ yJ36_hasNext cJ36_hasNext 1 (some FieldType.boolean)) [vR a0] s (.inl (some (vI r))) s' := by
  refine gCT_of2 (fun h => absurd h (by decide)) (plainFor_of_name (by decide)) (Nat.le_of_ble_eq_true rfl) ?_
  exact gw_sub [0] rfl (w_J36_hasNext_0 _ _ h)
def dkwJ36_nextNode_2 : List UInt8 := [180, 0, 13, 153, 0, 10, 43, 180, 0, 45, 167, 0, 7, 43, 180, 0, 50, 181, 0, 26, 43, 176]
abbrev dktJ36_nextNode_2 : List UInt8 := dkwJ36_nextNode_2 ++ []
def dkwJ36_nextNode_1 : List UInt8 := [183, 0, 41, 191, 43, 199, 0, 11, 187, 0, 42, 89, 183, 0, 44, 191, 42, 43, 181, 0, 36, 42, 42]
abbrev dktJ36_nextNode_1 : List UInt8 := dkwJ36_nextNode_1 ++ dktJ36_nextNode_2
def dkwJ36_nextNode_0 : List UInt8 := [42, 180, 0, 26, 76, 42, 180, 0, 1, 180, 0, 29, 42, 180, 0, 33, 159, 0, 11, 187, 0, 39, 89]
abbrev dktJ36_nextNode_0 : List UInt8 := dkwJ36_nextNode_0 ++ dktJ36_nextNode_1
theorem dksJ36_nextNode_0 : cJ36_nextNode.data.toList.drop 0 = dktJ36_nextNode_0 := by decide +kernel
theorem dksJ36_nextNode_1 : cJ36_nextNode.data.toList.drop 23 = dktJ36_nextNode_1 := dk_seg dksJ36_nextNode_0 23 rfl rfl
theorem dksJ36_nextNode_2 : cJ36_nextNode.data.toList.drop 46 = dktJ36_nextNode_2 := dk_seg dksJ36_nextNode_1 23 rfl rfl
theorem dJ36_nextNode_0 : decode cJ36_nextNode 0 = .ok (.aload_n 0, 1) := dk_42 (dk_at dksJ36_nextNode_0 0 rfl rfl)
theorem dJ36_nextNode_1 : decode cJ36_nextNode 1 = .ok (.getfield 26, 3) := dk_180 0 26 (dk_at dksJ36_nextNode_0 1 rfl rfl)
theorem dJ36_nextNode_4 : decode cJ36_nextNode 4 = .ok (.astore_n 1, 1) := dk_76 (dk_at dksJ36_nextNode_0 4 rfl rfl)
theorem dJ36_nextNode_5 : decode cJ36_nextNode 5 = .ok (.aload_n 0, 1) := dk_42 (dk_at dksJ36_nextNode_0 5 rfl rfl)
theorem dJ36_nextNode_6 : decode cJ36_nextNode 6 = .ok (.getfield 1, 3) := dk_180 0 1 (dk_at dksJ36_nextNode_0 6 rfl rfl)
theorem dJ36_nextNode_9 : decode cJ36_nextNode 9 = .ok (.getfield 29, 3) := dk_180 0 29 (dk_at dksJ36_nextNode_0 9 rfl rfl)
theorem dJ36_nextNode_12 : decode cJ36_nextNode 12 = .ok (.aload_n 0, 1) := dk_42 (dk_at dksJ36_nextNode_0 12 rfl rfl)
theorem dJ36_nextNode_13 : decode cJ36_nextNode 13 = .ok (.getfield 33, 3) := dk_180 0 33 (dk_at dksJ36_nextNode_0 13 rfl rfl)
theorem dJ36_nextNode_16 : decode cJ36_nextNode 16 = .ok (.if_icmp .eq 11, 3) := dk_159 0 11 (dk_at dksJ36_nextNode_0 16 rfl rfl)
theorem dJ36_nextNode_19 : decode cJ36_nextNode 19 = .ok (.new 39, 3) := dk_187 0 39 (dk_at dksJ36_nextNode_0 19 rfl rfl)
theorem dJ36_nextNode_22 : decode cJ36_nextNode 22 = .ok (.dup, 1) := dk_89 (dk_at dksJ36_nextNode_0 22 rfl rfl)
theorem dJ36_nextNode_23 : decode cJ36_nextNode 23 = .ok (.invokespecial 41, 3) := dk_183 0 41 (dk_at dksJ36_nextNode_1 0 rfl rfl)
theorem dJ36_nextNode_26 : decode cJ36_nextNode 26 = .ok (.athrow, 1) := dk_191 (dk_at dksJ36_nextNode_1 3 rfl rfl)
theorem dJ36_nextNode_27 : decode cJ36_nextNode 27 = .ok (.aload_n 1, 1) := dk_43 (dk_at dksJ36_nextNode_1 4 rfl rfl)
theorem dJ36_nextNode_28 : decode cJ36_nextNode 28 = .ok (.ifnonnull 11, 3) := dk_199 0 11 (dk_at dksJ36_nextNode_1 5 rfl rfl)
theorem dJ36_nextNode_31 : decode cJ36_nextNode 31 = .ok (.new 42, 3) := dk_187 0 42 (dk_at dksJ36_nextNode_1 8 rfl rfl)
theorem dJ36_nextNode_34 : decode cJ36_nextNode 34 = .ok (.dup, 1) := dk_89 (dk_at dksJ36_nextNode_1 11 rfl rfl)
theorem dJ36_nextNode_35 : decode cJ36_nextNode 35 = .ok (.invokespecial 44, 3) := dk_183 0 44 (dk_at dksJ36_nextNode_1 12 rfl rfl)
theorem dJ36_nextNode_38 : decode cJ36_nextNode 38 = .ok (.athrow, 1) := dk_191 (dk_at dksJ36_nextNode_1 15 rfl rfl)
theorem dJ36_nextNode_39 : decode cJ36_nextNode 39 = .ok (.aload_n 0, 1) := dk_42 (dk_at dksJ36_nextNode_1 16 rfl rfl)
theorem dJ36_nextNode_40 : decode cJ36_nextNode 40 = .ok (.aload_n 1, 1) := dk_43 (dk_at dksJ36_nextNode_1 17 rfl rfl)
theorem dJ36_nextNode_41 : decode cJ36_nextNode 41 = .ok (.putfield 36, 3) := dk_181 0 36 (dk_at dksJ36_nextNode_1 18 rfl rfl)
theorem dJ36_nextNode_44 : decode cJ36_nextNode 44 = .ok (.aload_n 0, 1) := dk_42 (dk_at dksJ36_nextNode_1 21 rfl rfl)
theorem dJ36_nextNode_45 : decode cJ36_nextNode 45 = .ok (.aload_n 0, 1) := dk_42 (dk_at dksJ36_nextNode_1 22 rfl rfl)
theorem dJ36_nextNode_46 : decode cJ36_nextNode 46 = .ok (.getfield 13, 3) := dk_180 0 13 (dk_at dksJ36_nextNode_2 0 rfl rfl)
theorem dJ36_nextNode_49 : decode cJ36_nextNode 49 = .ok (.ifCond .eq 10, 3) := dk_153 0 10 (dk_at dksJ36_nextNode_2 3 rfl rfl)
theorem dJ36_nextNode_52 : decode cJ36_nextNode 52 = .ok (.aload_n 1, 1) := dk_43 (dk_at dksJ36_nextNode_2 6 rfl rfl)
theorem dJ36_nextNode_53 : decode cJ36_nextNode 53 = .ok (.getfield 45, 3) := dk_180 0 45 (dk_at dksJ36_nextNode_2 7 rfl rfl)
theorem dJ36_nextNode_56 : decode cJ36_nextNode 56 = .ok (.goto 7, 3) := dk_167 0 7 (dk_at dksJ36_nextNode_2 10 rfl rfl)
theorem dJ36_nextNode_59 : decode cJ36_nextNode 59 = .ok (.aload_n 1, 1) := dk_43 (dk_at dksJ36_nextNode_2 13 rfl rfl)
theorem dJ36_nextNode_60 : decode cJ36_nextNode 60 = .ok (.getfield 50, 3) := dk_180 0 50 (dk_at dksJ36_nextNode_2 14 rfl rfl)
theorem dJ36_nextNode_63 : decode cJ36_nextNode 63 = .ok (.putfield 26, 3) := dk_181 0 26 (dk_at dksJ36_nextNode_2 17 rfl rfl)
theorem dJ36_nextNode_66 : decode cJ36_nextNode 66 = .ok (.aload_n 1, 1) := dk_43 (dk_at dksJ36_nextNode_2 20 rfl rfl)
theorem dJ36_nextNode_67 : decode cJ36_nextNode 67 = .ok (.areturn, 1) := dk_176 (dk_at dksJ36_nextNode_2 21 rfl rfl)
/-! java/util/LinkedHashMap$LinkedHashIterator.nextNode()Ljava/util/LinkedHashMap$Entry; -/
abbrev M_J36_nextNode (z0 n0 : Nat) (s' : gS) : gM := (RJ36, cJ36_nextNode, 2, (some (FieldType.object "java/util/LinkedHashMap$Entry")), "nextNode", [], 1, z0, n0, s'.2.1, s'.2.2)
abbrev W_J36_nextNode (E : gE) (z0 n0 : Nat) (r : (Option Nat)) (s' : gS) (pc : Nat) (L : List (Nat × gV)) (st : List gV) (s : gS) : Prop := gW E (M_J36_nextNode z0 n0 s') (gQm E (M_J36_nextNode z0 n0 s') (.inl (some (vR r))) s') pc L st s
noncomputable def f_J36_nextNode_63 (κ : gK) (F : Nat)  (l1 : Option Nat) (t0 : Option Nat) (t1 : Option Nat) (s : gS) : Option ((Option Nat) × gS) :=
  gB1 (gpf κ s t0 14 0 (va_rf t1)) fun s1 =>
  some (l1, s1)
set_option maxHeartbeats 4000000 in
theorem w_J36_nextNode_63 {E : gE} {F z0 n0 : Nat} {r : (Option Nat)} {s' : gS}   : ∀ (l1 : Option Nat) (t0 : Option Nat) (t1 : Option Nat) (s : gS), f_J36_nextNode_63 (gk E) F  l1 t0 t1 s = some (r, s') → W_J36_nextNode E z0 n0 r s' 63 [(1, vR l1)] [vR t1, vR t0] s := by
  intro l1 t0 t1 s hB
  unfold f_J36_nextNode_63 at hB
  obtain ⟨s1, hs1, hB⟩ := gB1_some hB
  refine gw_putf (C := RJ37) (T := TJ37) (N := 5) (k := 0) tyJ37 tyJ37_ok nmJ37 gcl14 (by decide) in_J37 q1880 rfl (tyJ37_ok 0 (by decide)) (gNF_o _ _) hs1 dJ36_nextNode_63 ?_
  refine gw_aload_n 0 rfl dJ36_nextNode_66 ?_
  obtain ⟨rfl, rfl⟩ := Prod.mk.inj (Option.some.inj hB)
  exact gw_aret rfl (Or.inl ⟨_, rfl⟩) rfl rfl dJ36_nextNode_67
noncomputable def f_J36_nextNode_0 (κ : gK) (F : Nat)  (l0 : Option Nat) (s : gS) : Option ((Option Nat) × gS) :=
  gB1 (gfR s l0 14 0) fun v1 =>
  gB1 (gfR s l0 14 4) fun v2 =>
  gB1 (gfI s v2 10 3) fun v3 =>
  gB1 (gfI s l0 14 2) fun v4 =>
  if v3 = v4 then
    if v1 = none then
      none
    else
      gB1 (gpf κ s l0 14 1 (va_rf v1)) fun s5 =>
      gB1 (gfI s5 l0 14 3) fun v6 =>
      if v6 = 0 then
        gB1 (gfR s5 v1 11 5) fun v7 =>
        f_J36_nextNode_63 κ F  v1 l0 v7 s5
      else
        gB1 (gfR s5 v1 11 4) fun v8 =>
        f_J36_nextNode_63 κ F  v1 l0 v8 s5
  else
    none
set_option maxHeartbeats 4000000 in
theorem w_J36_nextNode_0 {E : gE} {F z0 n0 : Nat} {r : (Option Nat)} {s' : gS}   : ∀ (l0 : Option Nat)  (s : gS), f_J36_nextNode_0 (gk E) F  l0 s = some (r, s') → W_J36_nextNode E z0 n0 r s' 0 [(0, vR l0)] [] s := by
  intro l0 s hB
  unfold f_J36_nextNode_0 at hB
  refine gw_aload_n 0 rfl dJ36_nextNode_0 ?_
  obtain ⟨v1, hv1, hB⟩ := gB1_some hB
  refine gw_getf (C := RJ37) (T := TJ37) (N := 5) (k := 0) gcl14 (by decide) in_J37 q1880 (gfR_spec hv1) dJ36_nextNode_1 ?_
  refine gw_astore_n (L' := [(1, vR v1), (0, vR l0)]) (Nat.le_of_ble_eq_true rfl) rfl dJ36_nextNode_4 ?_
  refine gw_aload_n 1 rfl dJ36_nextNode_5 ?_
  obtain ⟨v2, hv2, hB⟩ := gB1_some hB
  refine gw_getf (C := RJ37) (T := TJ37) (N := 5) (k := 4) gcl14 (by decide) in_J37 q1884 (gfR_spec hv2) dJ36_nextNode_6 ?_
  obtain ⟨v3, hv3, hB⟩ := gB1_some hB
  refine gw_getfS (C := RJ2) (T := TJ2) (N := 12) (k := 3) gcl10 (by decide) in_J2 q240 q241 (gfI_spec hv3) dJ36_nextNode_9 ?_
  refine gw_aload_n 1 rfl dJ36_nextNode_12 ?_
  obtain ⟨v4, hv4, hB⟩ := gB1_some hB
  refine gw_getf (C := RJ37) (T := TJ37) (N := 5) (k := 2) gcl14 (by decide) in_J37 q1882 (gfI_spec hv4) dJ36_nextNode_13 ?_
  refine gw_icmp_eq (tgt := 27) dJ36_nextNode_16 (by decide) (fun hcnd => ?_) (fun hcnd => ?_)
  · rw [if_pos hcnd] at hB
    refine gw_aload_n 0 rfl dJ36_nextNode_27 ?_
    refine gw_ifnonnull (tgt := 39) dJ36_nextNode_28 (by decide) (fun hcnd => ?_) (fun hcnd => ?_)
    · rw [if_neg hcnd] at hB
      refine gw_aload_n 1 rfl dJ36_nextNode_39 ?_
      refine gw_aload_n 0 rfl dJ36_nextNode_40 ?_
      obtain ⟨s5, hs5, hB⟩ := gB1_some hB
      refine gw_putf (C := RJ37) (T := TJ37) (N := 5) (k := 1) tyJ37 tyJ37_ok nmJ37 gcl14 (by decide) in_J37 q1881 rfl (tyJ37_ok 1 (by decide)) (gNF_o _ _) hs5 dJ36_nextNode_41 ?_
      refine gw_aload_n 1 rfl dJ36_nextNode_44 ?_
      refine gw_aload_n 1 rfl dJ36_nextNode_45 ?_
      obtain ⟨v6, hv6, hB⟩ := gB1_some hB
      refine gw_getf (C := RJ37) (T := TJ37) (N := 5) (k := 3) gcl14 (by decide) in_J37 q1883 (gfI_spec hv6) dJ36_nextNode_46 ?_
      refine gw_if_eq (tgt := 59) dJ36_nextNode_49 (by decide) (fun hcnd => ?_) (fun hcnd => ?_)
      · rw [if_pos hcnd] at hB
        refine gw_aload_n 0 rfl dJ36_nextNode_59 ?_
        obtain ⟨v7, hv7, hB⟩ := gB1_some hB
        refine gw_getf (C := RJ19) (T := TJ19) (N := 6) (k := 5) gcl11 (by decide) in_J19 q797 (gfR_spec hv7) dJ36_nextNode_60 ?_
        exact gw_sub [0] rfl (w_J36_nextNode_63  _ _ _ _ hB)
      · rw [if_neg hcnd] at hB
        refine gw_aload_n 0 rfl dJ36_nextNode_52 ?_
        obtain ⟨v8, hv8, hB⟩ := gB1_some hB
        refine gw_getf (C := RJ19) (T := TJ19) (N := 6) (k := 4) gcl11 (by decide) in_J19 q795 (gfR_spec hv8) dJ36_nextNode_53 ?_
        refine gw_goto (tgt := 63) dJ36_nextNode_56 (by decide) ?_
        exact gw_sub [0] rfl (w_J36_nextNode_63  _ _ _ _ hB)
    · rw [if_pos hcnd] at hB
      cases hB
  · rw [if_neg hcnd] at hB
    cases hB
noncomputable def f_J36_nextNode (κ : gK) (F : Nat) (a0 : Option Nat) (s : gS) : Option ((Option Nat) × gS) := f_J36_nextNode_0 κ F a0 s
theorem m_J36_nextNode {E : gE} {F : Nat} (a0 : Option Nat) (s : gS) (r : (Option Nat)) (s' : gS) (h : f_J36_nextNode (gk E) F a0 s = some (r, s')) : gCT E 1 yJ36_nextNode (ws_ yJ36_nextNode cJ36_nextNode 2 (some (FieldType.object "java/util/LinkedHashMap$Entry"))) [vR a0] s (.inl (some (vR r))) s' := by
  refine gCT_of2 (fun h => absurd h (by decide)) (plainFor_of_name (by decide)) (Nat.le_of_ble_eq_true rfl) ?_
  exact gw_sub [0] rfl (w_J36_nextNode_0 _ _ h)
theorem dJ18_getKey_0 : decode cJ18_getKey 0 = .ok (.aload_n 0, 1) := by decide +kernel
theorem dJ18_getKey_1 : decode cJ18_getKey 1 = .ok (.getfield 13, 3) := by decide +kernel
theorem dJ18_getKey_4 : decode cJ18_getKey 4 = .ok (.areturn, 1) := by decide +kernel
/-! java/util/HashMap$Node.getKey()Ljava/lang/Object; -/
abbrev M_J18_getKey (z0 n0 : Nat) (s' : gS) : gM := (RJ18, cJ18_getKey, 1, (some (FieldType.object "java/lang/Object")), "getKey", [], 1, z0, n0, s'.2.1, s'.2.2)
abbrev W_J18_getKey (E : gE) (z0 n0 : Nat) (r : (Option Nat)) (s' : gS) (pc : Nat) (L : List (Nat × gV)) (st : List gV) (s : gS) : Prop := gW E (M_J18_getKey z0 n0 s') (gQm E (M_J18_getKey z0 n0 s') (.inl (some (vR r))) s') pc L st s
noncomputable def f_J18_getKey_0 (κ : gK) (F : Nat)  (l0 : Option Nat) (s : gS) : Option ((Option Nat) × gS) :=
  gB1 (gfR s l0 11 1) fun v1 =>
  some (v1, s)
set_option maxHeartbeats 4000000 in
theorem w_J18_getKey_0 {E : gE} {F z0 n0 : Nat} {r : (Option Nat)} {s' : gS}   : ∀ (l0 : Option Nat)  (s : gS), f_J18_getKey_0 (gk E) F  l0 s = some (r, s') → W_J18_getKey E z0 n0 r s' 0 [(0, vR l0)] [] s := by
  intro l0 s hB
  unfold f_J18_getKey_0 at hB
  refine gw_aload_n 0 rfl dJ18_getKey_0 ?_
  obtain ⟨v1, hv1, hB⟩ := gB1_some hB
  refine gw_getf (C := RJ19) (T := TJ19) (N := 6) (k := 1) gcl11 (by decide) in_J19 q804 (gfR_spec hv1) dJ18_getKey_1 ?_
  obtain ⟨rfl, rfl⟩ := Prod.mk.inj (Option.some.inj hB)
  exact gw_aret rfl (Or.inl ⟨_, rfl⟩) rfl rfl dJ18_getKey_4
noncomputable def f_J18_getKey (κ : gK) (F : Nat) (a0 : Option Nat) (s : gS) : Option ((Option Nat) × gS) := f_J18_getKey_0 κ F a0 s
theorem m_J18_getKey {E : gE} {F : Nat} (a0 : Option Nat) (s : gS) (r : (Option Nat)) (s' : gS) (h : f_J18_getKey (gk E) F a0 s = some (r, s')) : gCT E 1 yJ18_getKey (ws_ yJ18_getKey cJ18_getKey 1 (some (FieldType.object "java/lang/Object"))) [vR a0] s (.inl (some (vR r))) s' := by
  refine gCT_of2 (fun h => absurd h (by decide)) (plainFor_of_name (by decide)) (Nat.le_of_ble_eq_true rfl) ?_
  exact gw_sub [0] rfl (w_J18_getKey_0 _ _ h)
def dkwJ37_next_0 : List UInt8 := [42, 182, 0, 7, 182, 0, 13, 176]
abbrev dktJ37_next_0 : List UInt8 := dkwJ37_next_0 ++ []
theorem dksJ37_next_0 : cJ37_next.data.toList.drop 0 = dktJ37_next_0 := by decide +kernel
theorem dJ37_next_0 : decode cJ37_next 0 = .ok (.aload_n 0, 1) := dk_42 (dk_at dksJ37_next_0 0 rfl rfl)
theorem dJ37_next_1 : decode cJ37_next 1 = .ok (.invokevirtual 7, 3) := dk_182 0 7 (dk_at dksJ37_next_0 1 rfl rfl)
theorem dJ37_next_4 : decode cJ37_next 4 = .ok (.invokevirtual 13, 3) := dk_182 0 13 (dk_at dksJ37_next_0 4 rfl rfl)
theorem dJ37_next_7 : decode cJ37_next 7 = .ok (.areturn, 1) := dk_176 (dk_at dksJ37_next_0 7 rfl rfl)
/-! java/util/LinkedHashMap$LinkedKeyIterator.next()Ljava/lang/Object; -/
abbrev M_J37_next (z0 n0 : Nat) (s' : gS) : gM := (RJ37, cJ37_next, 1, (some (FieldType.object "java/lang/Object")), "next", [], 2, z0, n0, s'.2.1, s'.2.2)
abbrev W_J37_next (E : gE) (z0 n0 : Nat) (r : (Option Nat)) (s' : gS) (pc : Nat) (L : List (Nat × gV)) (st : List gV) (s : gS) : Prop := gW E (M_J37_next z0 n0 s') (gQm E (M_J37_next z0 n0 s') (.inl (some (vR r))) s') pc L st s
noncomputable def f_J37_next_0 (κ : gK) (F : Nat)  (l0 : Option Nat) (s : gS) : Option ((Option Nat) × gS) :=
  gB1 (gck s l0 14) fun _ =>
  gB2 (f_J36_nextNode κ F l0  s) fun v2 s1 =>
  gB1 (gck s1 v2 11) fun _ =>
  gB2 (f_J18_getKey κ F v2  s1) fun v5 s4 =>
  some (v5, s4)
set_option maxHeartbeats 4000000 in
theorem w_J37_next_0 {E : gE} {F z0 n0 : Nat} {r : (Option Nat)} {s' : gS}   : ∀ (l0 : Option Nat)  (s : gS), f_J37_next_0 (gk E) F  l0 s = some (r, s') → W_J37_next E z0 n0 r s' 0 [(0, vR l0)] [] s := by
  intro l0 s hB
  unfold f_J37_next_0 at hB
  refine gw_aload_n 0 rfl dJ37_next_0 ?_
  obtain ⟨u0, hu3, hB⟩ := gB1_some hB
  obtain ⟨v2, s1, hv2, hB⟩ := gB2_some hB
  refine gw_callU (C := "java/util/LinkedHashMap$LinkedKeyIterator") (owner := "java/util/LinkedHashMap$LinkedHashIterator") (x := ⟨"java/util/LinkedHashMap$LinkedKeyIterator", "nextNode", "()Ljava/util/LinkedHashMap$Entry;"⟩) (y := yJ36_nextNode) (lw_app (lw_in (([Cond.methodLink "java/util/LinkedHashMap$LinkedKeyIterator" 7 ⟨"java/util/LinkedHashMap$LinkedKeyIterator", "nextNode", "()Ljava/util/LinkedHashMap$Entry;"⟩, Cond.sameMethod "java/util/LinkedHashMap$LinkedKeyIterator" "java/util/LinkedHashMap$LinkedHashIterator" "nextNode" "()Ljava/util/LinkedHashMap$Entry;", Cond.selects "java/util/LinkedHashMap$LinkedKeyIterator" ⟨"java/util/LinkedHashMap$LinkedKeyIterator", "nextNode", "()Ljava/util/LinkedHashMap$Entry;"⟩ yJ36_nextNode, Cond.instanceMethod yJ36_nextNode, Cond.initialized "java/util/LinkedHashMap$LinkedHashIterator"] : List Cond)) [1936, 1937, 1939, 1940, 155] (by decide +kernel) (by decide +kernel)) (lw_meth q1941)) rfl (show _ ∧ _ ∧ _ = some 0 from by decide +kernel) gcl14 hu3 (As := []) (rest := []) (m_J36_nextNode _ _ _ _ hv2) (Nat.le_of_ble_eq_true rfl) (Nat.le_of_ble_eq_true rfl) rfl (Nat.le_of_ble_eq_true rfl) dJ37_next_1 (gCont_i ?_)
  obtain ⟨u0, hu6, hB⟩ := gB1_some hB
  obtain ⟨v5, s4, hv5, hB⟩ := gB2_some hB
  refine gw_callU (C := "java/util/LinkedHashMap$Entry") (owner := "java/util/HashMap$Node") (x := ⟨"java/util/LinkedHashMap$Entry", "getKey", "()Ljava/lang/Object;"⟩) (y := yJ18_getKey) (lw_app (lw_in (([Cond.methodLink "java/util/LinkedHashMap$LinkedKeyIterator" 13 ⟨"java/util/LinkedHashMap$Entry", "getKey", "()Ljava/lang/Object;"⟩, Cond.sameMethod "java/util/LinkedHashMap$Entry" "java/util/HashMap$Node" "getKey" "()Ljava/lang/Object;", Cond.selects "java/util/LinkedHashMap$Entry" ⟨"java/util/LinkedHashMap$Entry", "getKey", "()Ljava/lang/Object;"⟩ yJ18_getKey, Cond.instanceMethod yJ18_getKey, Cond.initialized "java/util/HashMap$Node"] : List Cond)) [1942, 1943, 1946, 1947, 134] (by decide +kernel) (by decide +kernel)) (lw_meth q1948)) rfl (show _ ∧ _ ∧ _ = some 0 from by decide +kernel) gcl11 hu6 (As := []) (rest := []) (m_J18_getKey _ _ _ _ hv5) (Nat.le_of_ble_eq_true rfl) (Nat.le_of_ble_eq_true rfl) rfl (Nat.le_of_ble_eq_true rfl) dJ37_next_4 (gCont_i ?_)
  obtain ⟨rfl, rfl⟩ := Prod.mk.inj (Option.some.inj hB)
  exact gw_aret rfl (Or.inl ⟨_, rfl⟩) rfl rfl dJ37_next_7
noncomputable def f_J37_next (κ : gK) (F : Nat) (a0 : Option Nat) (s : gS) : Option ((Option Nat) × gS) := f_J37_next_0 κ F a0 s
theorem m_J37_next {E : gE} {F : Nat} (a0 : Option Nat) (s : gS) (r : (Option Nat)) (s' : gS) (h : f_J37_next (gk E) F a0 s = some (r, s')) : gCT E 2 yJ37_next (ws_ yJ37_next cJ37_next 1 (some (FieldType.object "java/lang/Object"))) [vR a0] s (.inl (some (vR r))) s' := by
  refine gCT_of2 (fun h => absurd h (by decide)) (plainFor_of_name (by decide)) (Nat.le_of_ble_eq_true rfl) ?_
  exact gw_sub [0] rfl (w_J37_next_0 _ _ h)
def dkwJ1_hash_0 : List UInt8 := [42, 199, 0, 7, 3, 167, 0, 14, 42, 182, 0, 1, 89, 60, 27, 16, 16, 124, 130, 172]
abbrev dktJ1_hash_0 : List UInt8 := dkwJ1_hash_0 ++ []
theorem dksJ1_hash_0 : cJ1_hash.data.toList.drop 0 = dktJ1_hash_0 := by decide +kernel
theorem dJ1_hash_0 : decode cJ1_hash 0 = .ok (.aload_n 0, 1) := dk_42 (dk_at dksJ1_hash_0 0 rfl rfl)
theorem dJ1_hash_1 : decode cJ1_hash 1 = .ok (.ifnonnull 7, 3) := dk_199 0 7 (dk_at dksJ1_hash_0 1 rfl rfl)
theorem dJ1_hash_4 : decode cJ1_hash 4 = .ok (.iconst 0, 1) := dk_3 (dk_at dksJ1_hash_0 4 rfl rfl)
theorem dJ1_hash_5 : decode cJ1_hash 5 = .ok (.goto 14, 3) := dk_167 0 14 (dk_at dksJ1_hash_0 5 rfl rfl)
theorem dJ1_hash_8 : decode cJ1_hash 8 = .ok (.aload_n 0, 1) := dk_42 (dk_at dksJ1_hash_0 8 rfl rfl)
theorem dJ1_hash_9 : decode cJ1_hash 9 = .ok (.invokevirtual 1, 3) := dk_182 0 1 (dk_at dksJ1_hash_0 9 rfl rfl)
theorem dJ1_hash_12 : decode cJ1_hash 12 = .ok (.dup, 1) := dk_89 (dk_at dksJ1_hash_0 12 rfl rfl)
theorem dJ1_hash_13 : decode cJ1_hash 13 = .ok (.istore_n 1, 1) := dk_60 (dk_at dksJ1_hash_0 13 rfl rfl)
theorem dJ1_hash_14 : decode cJ1_hash 14 = .ok (.iload_n 1, 1) := dk_27 (dk_at dksJ1_hash_0 14 rfl rfl)
theorem dJ1_hash_15 : decode cJ1_hash 15 = .ok (.bipush 16, 2) := dk_16 16 (dk_at dksJ1_hash_0 15 rfl rfl)
theorem dJ1_hash_17 : decode cJ1_hash 17 = .ok (.iushr, 1) := dk_124 (dk_at dksJ1_hash_0 17 rfl rfl)
theorem dJ1_hash_18 : decode cJ1_hash 18 = .ok (.ixor, 1) := dk_130 (dk_at dksJ1_hash_0 18 rfl rfl)
theorem dJ1_hash_19 : decode cJ1_hash 19 = .ok (.ireturn, 1) := dk_172 (dk_at dksJ1_hash_0 19 rfl rfl)
/-! java/util/HashMap.hash(Ljava/lang/Object;)I -/
abbrev M_J1_hash (z0 n0 : Nat) (s' : gS) : gM := (RJ1, cJ1_hash, 2, (some FieldType.int), "hash", [], 2, z0, n0, s'.2.1, s'.2.2)
abbrev W_J1_hash (E : gE) (z0 n0 : Nat) (r : Int32) (s' : gS) (pc : Nat) (L : List (Nat × gV)) (st : List gV) (s : gS) : Prop := gW E (M_J1_hash z0 n0 s') (gQm E (M_J1_hash z0 n0 s') (.inl (some (vI r))) s') pc L st s
noncomputable def f_J1_hash_19 (κ : gK) (F : Nat)  (t0 : Int32) (s : gS) : Option (Int32 × gS) :=
  some (t0, s)
set_option maxHeartbeats 4000000 in
theorem w_J1_hash_19 {E : gE} {F z0 n0 : Nat} {r : Int32} {s' : gS}   : ∀  (t0 : Int32) (s : gS), f_J1_hash_19 (gk E) F  t0 s = some (r, s') → W_J1_hash E z0 n0 r s' 19 [] [vI t0] s := by
  intro t0 s hB
  unfold f_J1_hash_19 at hB
  obtain ⟨rfl, rfl⟩ := Prod.mk.inj (Option.some.inj hB)
  exact gw_iret rfl rfl rfl dJ1_hash_19
noncomputable def f_J1_hash_0 (κ : gK) (F : Nat)  (l0 : Option Nat) (s : gS) : Option (Int32 × gS) :=
  if l0 = none then
    f_J1_hash_19 κ F  (0 : Int32) s
  else
    gB1 (gck s l0 1) fun _ =>
    gB2 (f_X2_hashCode κ F l0  s) fun v2 s1 =>
    f_J1_hash_19 κ F  (v2 ^^^ ((v2.toUInt32 >>> ((16 : Int32).toUInt32 &&& Int32.toUInt32 31)).toInt32)) s1
set_option maxHeartbeats 4000000 in
theorem w_J1_hash_0 {E : gE} {F z0 n0 : Nat} {r : Int32} {s' : gS}   : ∀ (l0 : Option Nat)  (s : gS), f_J1_hash_0 (gk E) F  l0 s = some (r, s') → W_J1_hash E z0 n0 r s' 0 [(0, vR l0)] [] s := by
  intro l0 s hB
  unfold f_J1_hash_0 at hB
  refine gw_aload_n 0 rfl dJ1_hash_0 ?_
  refine gw_ifnonnull (tgt := 8) dJ1_hash_1 (by decide) (fun hcnd => ?_) (fun hcnd => ?_)
  · rw [if_neg hcnd] at hB
    refine gw_aload_n 0 rfl dJ1_hash_8 ?_
    obtain ⟨u0, hu3, hB⟩ := gB1_some hB
    obtain ⟨v2, s1, hv2, hB⟩ := gB2_some hB
    refine gw_callA (C := "PageGarden$Bed") (owner := "java/lang/Object") (x := ⟨"java/lang/Object", "hashCode", "()I"⟩) (y := yX2_hashCode) (lw_app (lw_in (([Cond.methodLink "java/util/HashMap" 1 ⟨"java/lang/Object", "hashCode", "()I"⟩, Cond.sameMethod "java/lang/Object" "java/lang/Object" "hashCode" "()I", Cond.selects "PageGarden$Bed" ⟨"java/lang/Object", "hashCode", "()I"⟩ yX2_hashCode, Cond.instanceMethod yX2_hashCode, Cond.initialized "PageGarden$Bed"] : List Cond)) [339, 341, 343, 344, 109] (by decide +kernel) (by decide +kernel)) (lw_meth q345)) q338 (show _ ∧ _ ∧ _ = some 0 from by decide +kernel) gcl1 hu3 (As := []) (rest := []) (m_X2_hashCode _ _ _ _ hv2) (Nat.le_of_ble_eq_true rfl) (Nat.le_of_ble_eq_true rfl) rfl (Nat.le_of_ble_eq_true rfl) dJ1_hash_9 (gCont_i ?_)
    refine gw_dup rfl dJ1_hash_12 ?_
    refine gw_istore_n (L' := [(1, vI v2), (0, vR l0)]) (Nat.le_of_ble_eq_true rfl) rfl dJ1_hash_13 ?_
    refine gw_iload_n 0 rfl dJ1_hash_14 ?_
    refine gw_bipush (v := (16 : Int32)) (by decide) dJ1_hash_15 ?_
    refine gw_iushr dJ1_hash_17 ?_
    refine gw_ixor dJ1_hash_18 ?_
    exact gw_sub [] rfl (w_J1_hash_19  _ _ hB)
  · rw [if_pos hcnd] at hB
    refine gw_iconst (v := (0 : Int32)) (by decide) dJ1_hash_4 ?_
    refine gw_goto (tgt := 19) dJ1_hash_5 (by decide) ?_
    exact gw_sub [] rfl (w_J1_hash_19  _ _ hB)
noncomputable def f_J1_hash (κ : gK) (F : Nat) (a1 : Option Nat) (s : gS) : Option (Int32 × gS) := f_J1_hash_0 κ F a1 s
theorem m_J1_hash {E : gE} {F : Nat} (a1 : Option Nat) (s : gS) (r : Int32) (s' : gS) (h : f_J1_hash (gk E) F a1 s = some (r, s')) : gCT E 2 yJ1_hash (ws_ yJ1_hash cJ1_hash 2 (some FieldType.int)) [vR a1] s (.inl (some (vI r))) s' := by
  refine gCT_of2 (fun h => absurd h (by decide)) (plainFor_of_name (by decide)) (Nat.le_of_ble_eq_true rfl) ?_
  exact gw_sub [0] rfl (w_J1_hash_0 _ _ h)
def dkwJ1_resize_15 : List UInt8 := [25, 6, 176]
abbrev dktJ1_resize_15 : List UInt8 := dkwJ1_resize_15 ++ []
def dkwJ1_resize_14 : List UInt8 := [198, 0, 18, 25, 12, 1, 181, 0, 177, 25, 6, 21, 7, 28, 96, 25, 11, 83, 132, 7, 1, 167, 255, 57]
abbrev dktJ1_resize_14 : List UInt8 := dkwJ1_resize_14 ++ dktJ1_resize_15
def dkwJ1_resize_13 : List UInt8 := [199, 255, 185, 25, 10, 198, 0, 16, 25, 10, 1, 181, 0, 177, 25, 6, 21, 7, 25, 9, 83, 25, 12]
abbrev dktJ1_resize_13 : List UInt8 := dkwJ1_resize_13 ++ dktJ1_resize_14
def dkwJ1_resize_12 : List UInt8 := [25, 8, 58, 11, 167, 0, 10, 25, 12, 25, 8, 181, 0, 177, 25, 8, 58, 12, 25, 13, 89, 58, 8]
abbrev dktJ1_resize_12 : List UInt8 := dkwJ1_resize_12 ++ dktJ1_resize_13
def dkwJ1_resize_11 : List UInt8 := [58, 9, 167, 0, 10, 25, 10, 25, 8, 181, 0, 177, 25, 8, 58, 10, 167, 0, 26, 25, 12, 199, 0, 10]
abbrev dktJ1_resize_11 : List UInt8 := dkwJ1_resize_11 ++ dktJ1_resize_12
def dkwJ1_resize_10 : List UInt8 := [25, 8, 180, 0, 177, 58, 13, 25, 8, 180, 0, 168, 28, 126, 154, 0, 29, 25, 10, 199, 0, 10, 25, 8]
abbrev dktJ1_resize_10 : List UInt8 := dkwJ1_resize_10 ++ dktJ1_resize_11
def dkwJ1_resize_9 : List UInt8 := [42, 25, 6, 21, 7, 28, 182, 0, 211, 167, 0, 127, 1, 58, 9, 1, 58, 10, 1, 58, 11, 1, 58, 12]
abbrev dktJ1_resize_9 : List UInt8 := dkwJ1_resize_9 ++ dktJ1_resize_10
def dkwJ1_resize_8 : List UInt8 := [21, 4, 4, 100, 126, 25, 8, 83, 167, 0, 152, 25, 8, 193, 0, 180, 153, 0, 20, 25, 8, 192, 0, 180]
abbrev dktJ1_resize_8 : List UInt8 := dkwJ1_resize_8 ++ dktJ1_resize_9
def dkwJ1_resize_7 : List UInt8 := [198, 0, 183, 43, 21, 7, 1, 83, 25, 8, 180, 0, 177, 199, 0, 21, 25, 6, 25, 8, 180, 0, 168]
abbrev dktJ1_resize_7 : List UInt8 := dkwJ1_resize_7 ++ dktJ1_resize_8
def dkwJ1_resize_6 : List UInt8 := [181, 0, 105, 43, 198, 0, 208, 3, 54, 7, 21, 7, 28, 162, 0, 199, 43, 21, 7, 50, 89, 58, 8]
abbrev dktJ1_resize_6 : List UInt8 := dkwJ1_resize_6 ++ dktJ1_resize_7
def dkwJ1_resize_5 : List UInt8 := [167, 0, 5, 18, 209, 54, 5, 42, 21, 5, 181, 0, 88, 21, 4, 189, 0, 163, 58, 6, 42, 25, 6]
abbrev dktJ1_resize_5 : List UInt8 := dkwJ1_resize_5 ++ dktJ1_resize_6
def dkwJ1_resize_4 : List UInt8 := [180, 0, 81, 106, 56, 6, 21, 4, 18, 42, 162, 0, 17, 23, 6, 18, 210, 150, 156, 0, 9, 23, 6, 139]
abbrev dktJ1_resize_4 : List UInt8 := dkwJ1_resize_4 ++ dktJ1_resize_5
def dkwJ1_resize_3 : List UInt8 := [54, 4, 167, 0, 11, 16, 16, 54, 4, 16, 12, 54, 5, 21, 5, 154, 0, 38, 21, 4, 134, 42]
abbrev dktJ1_resize_3 : List UInt8 := dkwJ1_resize_3 ++ dktJ1_resize_4
def dkwJ1_resize_2 : List UInt8 := [18, 42, 162, 0, 35, 28, 16, 16, 161, 0, 29, 29, 4, 120, 54, 5, 167, 0, 21, 29, 158, 0, 9, 29]
abbrev dktJ1_resize_2 : List UInt8 := dkwJ1_resize_2 ++ dktJ1_resize_3
def dkwJ1_resize_1 : List UInt8 := [28, 158, 0, 42, 28, 18, 42, 161, 0, 11, 42, 18, 209, 181, 0, 88, 43, 176, 28, 4, 120, 89, 54, 4]
abbrev dktJ1_resize_1 : List UInt8 := dkwJ1_resize_1 ++ dktJ1_resize_2
def dkwJ1_resize_0 : List UInt8 := [42, 180, 0, 105, 76, 43, 199, 0, 7, 3, 167, 0, 5, 43, 190, 61, 42, 180, 0, 88, 62, 3, 54, 5]
abbrev dktJ1_resize_0 : List UInt8 := dkwJ1_resize_0 ++ dktJ1_resize_1
theorem dksJ1_resize_0 : cJ1_resize.data.toList.drop 0 = dktJ1_resize_0 := by decide +kernel
theorem dksJ1_resize_1 : cJ1_resize.data.toList.drop 24 = dktJ1_resize_1 := dk_seg dksJ1_resize_0 24 rfl rfl
theorem dksJ1_resize_2 : cJ1_resize.data.toList.drop 48 = dktJ1_resize_2 := dk_seg dksJ1_resize_1 24 rfl rfl
theorem dksJ1_resize_3 : cJ1_resize.data.toList.drop 72 = dktJ1_resize_3 := dk_seg dksJ1_resize_2 24 rfl rfl
theorem dksJ1_resize_4 : cJ1_resize.data.toList.drop 94 = dktJ1_resize_4 := dk_seg dksJ1_resize_3 22 rfl rfl
theorem dksJ1_resize_5 : cJ1_resize.data.toList.drop 118 = dktJ1_resize_5 := dk_seg dksJ1_resize_4 24 rfl rfl
theorem dksJ1_resize_6 : cJ1_resize.data.toList.drop 141 = dktJ1_resize_6 := dk_seg dksJ1_resize_5 23 rfl rfl
theorem dksJ1_resize_7 : cJ1_resize.data.toList.drop 164 = dktJ1_resize_7 := dk_seg dksJ1_resize_6 23 rfl rfl
theorem dksJ1_resize_8 : cJ1_resize.data.toList.drop 187 = dktJ1_resize_8 := dk_seg dksJ1_resize_7 23 rfl rfl
theorem dksJ1_resize_9 : cJ1_resize.data.toList.drop 211 = dktJ1_resize_9 := dk_seg dksJ1_resize_8 24 rfl rfl
theorem dksJ1_resize_10 : cJ1_resize.data.toList.drop 235 = dktJ1_resize_10 := dk_seg dksJ1_resize_9 24 rfl rfl
theorem dksJ1_resize_11 : cJ1_resize.data.toList.drop 259 = dktJ1_resize_11 := dk_seg dksJ1_resize_10 24 rfl rfl
theorem dksJ1_resize_12 : cJ1_resize.data.toList.drop 283 = dktJ1_resize_12 := dk_seg dksJ1_resize_11 24 rfl rfl
theorem dksJ1_resize_13 : cJ1_resize.data.toList.drop 306 = dktJ1_resize_13 := dk_seg dksJ1_resize_12 23 rfl rfl
theorem dksJ1_resize_14 : cJ1_resize.data.toList.drop 329 = dktJ1_resize_14 := dk_seg dksJ1_resize_13 23 rfl rfl
theorem dksJ1_resize_15 : cJ1_resize.data.toList.drop 353 = dktJ1_resize_15 := dk_seg dksJ1_resize_14 24 rfl rfl
theorem dJ1_resize_0 : decode cJ1_resize 0 = .ok (.aload_n 0, 1) := dk_42 (dk_at dksJ1_resize_0 0 rfl rfl)
theorem dJ1_resize_1 : decode cJ1_resize 1 = .ok (.getfield 105, 3) := dk_180 0 105 (dk_at dksJ1_resize_0 1 rfl rfl)
theorem dJ1_resize_4 : decode cJ1_resize 4 = .ok (.astore_n 1, 1) := dk_76 (dk_at dksJ1_resize_0 4 rfl rfl)
theorem dJ1_resize_5 : decode cJ1_resize 5 = .ok (.aload_n 1, 1) := dk_43 (dk_at dksJ1_resize_0 5 rfl rfl)
theorem dJ1_resize_6 : decode cJ1_resize 6 = .ok (.ifnonnull 7, 3) := dk_199 0 7 (dk_at dksJ1_resize_0 6 rfl rfl)
theorem dJ1_resize_9 : decode cJ1_resize 9 = .ok (.iconst 0, 1) := dk_3 (dk_at dksJ1_resize_0 9 rfl rfl)
theorem dJ1_resize_10 : decode cJ1_resize 10 = .ok (.goto 5, 3) := dk_167 0 5 (dk_at dksJ1_resize_0 10 rfl rfl)
theorem dJ1_resize_13 : decode cJ1_resize 13 = .ok (.aload_n 1, 1) := dk_43 (dk_at dksJ1_resize_0 13 rfl rfl)
theorem dJ1_resize_14 : decode cJ1_resize 14 = .ok (.arraylength, 1) := dk_190 (dk_at dksJ1_resize_0 14 rfl rfl)
theorem dJ1_resize_15 : decode cJ1_resize 15 = .ok (.istore_n 2, 1) := dk_61 (dk_at dksJ1_resize_0 15 rfl rfl)
theorem dJ1_resize_16 : decode cJ1_resize 16 = .ok (.aload_n 0, 1) := dk_42 (dk_at dksJ1_resize_0 16 rfl rfl)
theorem dJ1_resize_17 : decode cJ1_resize 17 = .ok (.getfield 88, 3) := dk_180 0 88 (dk_at dksJ1_resize_0 17 rfl rfl)
theorem dJ1_resize_20 : decode cJ1_resize 20 = .ok (.istore_n 3, 1) := dk_62 (dk_at dksJ1_resize_0 20 rfl rfl)
theorem dJ1_resize_21 : decode cJ1_resize 21 = .ok (.iconst 0, 1) := dk_3 (dk_at dksJ1_resize_0 21 rfl rfl)
theorem dJ1_resize_22 : decode cJ1_resize 22 = .ok (.istore 5, 2) := dk_54 5 (dk_at dksJ1_resize_0 22 rfl rfl)
theorem dJ1_resize_24 : decode cJ1_resize 24 = .ok (.iload_n 2, 1) := dk_28 (dk_at dksJ1_resize_1 0 rfl rfl)
theorem dJ1_resize_25 : decode cJ1_resize 25 = .ok (.ifCond .le 42, 3) := dk_158 0 42 (dk_at dksJ1_resize_1 1 rfl rfl)
theorem dJ1_resize_28 : decode cJ1_resize 28 = .ok (.iload_n 2, 1) := dk_28 (dk_at dksJ1_resize_1 4 rfl rfl)
theorem dJ1_resize_29 : decode cJ1_resize 29 = .ok (.ldc 42, 2) := dk_18 42 (dk_at dksJ1_resize_1 5 rfl rfl)
theorem dJ1_resize_31 : decode cJ1_resize 31 = .ok (.if_icmp .lt 11, 3) := dk_161 0 11 (dk_at dksJ1_resize_1 7 rfl rfl)
theorem dJ1_resize_34 : decode cJ1_resize 34 = .ok (.aload_n 0, 1) := dk_42 (dk_at dksJ1_resize_1 10 rfl rfl)
theorem dJ1_resize_35 : decode cJ1_resize 35 = .ok (.ldc 209, 2) := dk_18 209 (dk_at dksJ1_resize_1 11 rfl rfl)
theorem dJ1_resize_37 : decode cJ1_resize 37 = .ok (.putfield 88, 3) := dk_181 0 88 (dk_at dksJ1_resize_1 13 rfl rfl)
theorem dJ1_resize_40 : decode cJ1_resize 40 = .ok (.aload_n 1, 1) := dk_43 (dk_at dksJ1_resize_1 16 rfl rfl)
theorem dJ1_resize_41 : decode cJ1_resize 41 = .ok (.areturn, 1) := dk_176 (dk_at dksJ1_resize_1 17 rfl rfl)
theorem dJ1_resize_42 : decode cJ1_resize 42 = .ok (.iload_n 2, 1) := dk_28 (dk_at dksJ1_resize_1 18 rfl rfl)
theorem dJ1_resize_43 : decode cJ1_resize 43 = .ok (.iconst 1, 1) := dk_4 (dk_at dksJ1_resize_1 19 rfl rfl)
theorem dJ1_resize_44 : decode cJ1_resize 44 = .ok (.ishl, 1) := dk_120 (dk_at dksJ1_resize_1 20 rfl rfl)
theorem dJ1_resize_45 : decode cJ1_resize 45 = .ok (.dup, 1) := dk_89 (dk_at dksJ1_resize_1 21 rfl rfl)
theorem dJ1_resize_46 : decode cJ1_resize 46 = .ok (.istore 4, 2) := dk_54 4 (dk_at dksJ1_resize_1 22 rfl rfl)
theorem dJ1_resize_48 : decode cJ1_resize 48 = .ok (.ldc 42, 2) := dk_18 42 (dk_at dksJ1_resize_2 0 rfl rfl)
theorem dJ1_resize_50 : decode cJ1_resize 50 = .ok (.if_icmp .ge 35, 3) := dk_162 0 35 (dk_at dksJ1_resize_2 2 rfl rfl)
theorem dJ1_resize_53 : decode cJ1_resize 53 = .ok (.iload_n 2, 1) := dk_28 (dk_at dksJ1_resize_2 5 rfl rfl)
theorem dJ1_resize_54 : decode cJ1_resize 54 = .ok (.bipush 16, 2) := dk_16 16 (dk_at dksJ1_resize_2 6 rfl rfl)
theorem dJ1_resize_56 : decode cJ1_resize 56 = .ok (.if_icmp .lt 29, 3) := dk_161 0 29 (dk_at dksJ1_resize_2 8 rfl rfl)
theorem dJ1_resize_59 : decode cJ1_resize 59 = .ok (.iload_n 3, 1) := dk_29 (dk_at dksJ1_resize_2 11 rfl rfl)
theorem dJ1_resize_60 : decode cJ1_resize 60 = .ok (.iconst 1, 1) := dk_4 (dk_at dksJ1_resize_2 12 rfl rfl)
theorem dJ1_resize_61 : decode cJ1_resize 61 = .ok (.ishl, 1) := dk_120 (dk_at dksJ1_resize_2 13 rfl rfl)
theorem dJ1_resize_62 : decode cJ1_resize 62 = .ok (.istore 5, 2) := dk_54 5 (dk_at dksJ1_resize_2 14 rfl rfl)
theorem dJ1_resize_64 : decode cJ1_resize 64 = .ok (.goto 21, 3) := dk_167 0 21 (dk_at dksJ1_resize_2 16 rfl rfl)
theorem dJ1_resize_67 : decode cJ1_resize 67 = .ok (.iload_n 3, 1) := dk_29 (dk_at dksJ1_resize_2 19 rfl rfl)
theorem dJ1_resize_68 : decode cJ1_resize 68 = .ok (.ifCond .le 9, 3) := dk_158 0 9 (dk_at dksJ1_resize_2 20 rfl rfl)
theorem dJ1_resize_71 : decode cJ1_resize 71 = .ok (.iload_n 3, 1) := dk_29 (dk_at dksJ1_resize_2 23 rfl rfl)
theorem dJ1_resize_72 : decode cJ1_resize 72 = .ok (.istore 4, 2) := dk_54 4 (dk_at dksJ1_resize_3 0 rfl rfl)
theorem dJ1_resize_74 : decode cJ1_resize 74 = .ok (.goto 11, 3) := dk_167 0 11 (dk_at dksJ1_resize_3 2 rfl rfl)
theorem dJ1_resize_77 : decode cJ1_resize 77 = .ok (.bipush 16, 2) := dk_16 16 (dk_at dksJ1_resize_3 5 rfl rfl)
theorem dJ1_resize_79 : decode cJ1_resize 79 = .ok (.istore 4, 2) := dk_54 4 (dk_at dksJ1_resize_3 7 rfl rfl)
theorem dJ1_resize_81 : decode cJ1_resize 81 = .ok (.bipush 12, 2) := dk_16 12 (dk_at dksJ1_resize_3 9 rfl rfl)
theorem dJ1_resize_83 : decode cJ1_resize 83 = .ok (.istore 5, 2) := dk_54 5 (dk_at dksJ1_resize_3 11 rfl rfl)
theorem dJ1_resize_85 : decode cJ1_resize 85 = .ok (.iload 5, 2) := dk_21 5 (dk_at dksJ1_resize_3 13 rfl rfl)
theorem dJ1_resize_87 : decode cJ1_resize 87 = .ok (.ifCond .ne 38, 3) := dk_154 0 38 (dk_at dksJ1_resize_3 15 rfl rfl)
theorem dJ1_resize_90 : decode cJ1_resize 90 = .ok (.iload 4, 2) := dk_21 4 (dk_at dksJ1_resize_3 18 rfl rfl)
theorem dJ1_resize_92 : decode cJ1_resize 92 = .ok (.i2f, 1) := dk_134 (dk_at dksJ1_resize_3 20 rfl rfl)
theorem dJ1_resize_93 : decode cJ1_resize 93 = .ok (.aload_n 0, 1) := dk_42 (dk_at dksJ1_resize_3 21 rfl rfl)
theorem dJ1_resize_94 : decode cJ1_resize 94 = .ok (.getfield 81, 3) := dk_180 0 81 (dk_at dksJ1_resize_4 0 rfl rfl)
theorem dJ1_resize_97 : decode cJ1_resize 97 = .ok (.fmul, 1) := dk_106 (dk_at dksJ1_resize_4 3 rfl rfl)
theorem dJ1_resize_98 : decode cJ1_resize 98 = .ok (.fstore 6, 2) := dk_56 6 (dk_at dksJ1_resize_4 4 rfl rfl)
theorem dJ1_resize_100 : decode cJ1_resize 100 = .ok (.iload 4, 2) := dk_21 4 (dk_at dksJ1_resize_4 6 rfl rfl)
theorem dJ1_resize_102 : decode cJ1_resize 102 = .ok (.ldc 42, 2) := dk_18 42 (dk_at dksJ1_resize_4 8 rfl rfl)
theorem dJ1_resize_104 : decode cJ1_resize 104 = .ok (.if_icmp .ge 17, 3) := dk_162 0 17 (dk_at dksJ1_resize_4 10 rfl rfl)
theorem dJ1_resize_107 : decode cJ1_resize 107 = .ok (.fload 6, 2) := dk_23 6 (dk_at dksJ1_resize_4 13 rfl rfl)
theorem dJ1_resize_109 : decode cJ1_resize 109 = .ok (.ldc 210, 2) := dk_18 210 (dk_at dksJ1_resize_4 15 rfl rfl)
theorem dJ1_resize_111 : decode cJ1_resize 111 = .ok (.fcmp .g, 1) := dk_150 (dk_at dksJ1_resize_4 17 rfl rfl)
theorem dJ1_resize_112 : decode cJ1_resize 112 = .ok (.ifCond .ge 9, 3) := dk_156 0 9 (dk_at dksJ1_resize_4 18 rfl rfl)
theorem dJ1_resize_115 : decode cJ1_resize 115 = .ok (.fload 6, 2) := dk_23 6 (dk_at dksJ1_resize_4 21 rfl rfl)
theorem dJ1_resize_117 : decode cJ1_resize 117 = .ok (.f2i, 1) := dk_139 (dk_at dksJ1_resize_4 23 rfl rfl)
theorem dJ1_resize_118 : decode cJ1_resize 118 = .ok (.goto 5, 3) := dk_167 0 5 (dk_at dksJ1_resize_5 0 rfl rfl)
theorem dJ1_resize_121 : decode cJ1_resize 121 = .ok (.ldc 209, 2) := dk_18 209 (dk_at dksJ1_resize_5 3 rfl rfl)
theorem dJ1_resize_123 : decode cJ1_resize 123 = .ok (.istore 5, 2) := dk_54 5 (dk_at dksJ1_resize_5 5 rfl rfl)
theorem dJ1_resize_125 : decode cJ1_resize 125 = .ok (.aload_n 0, 1) := dk_42 (dk_at dksJ1_resize_5 7 rfl rfl)
theorem dJ1_resize_126 : decode cJ1_resize 126 = .ok (.iload 5, 2) := dk_21 5 (dk_at dksJ1_resize_5 8 rfl rfl)
theorem dJ1_resize_128 : decode cJ1_resize 128 = .ok (.putfield 88, 3) := dk_181 0 88 (dk_at dksJ1_resize_5 10 rfl rfl)
theorem dJ1_resize_131 : decode cJ1_resize 131 = .ok (.iload 4, 2) := dk_21 4 (dk_at dksJ1_resize_5 13 rfl rfl)
theorem dJ1_resize_133 : decode cJ1_resize 133 = .ok (.anewarray 163, 3) := dk_189 0 163 (dk_at dksJ1_resize_5 15 rfl rfl)
theorem dJ1_resize_136 : decode cJ1_resize 136 = .ok (.astore 6, 2) := dk_58 6 (dk_at dksJ1_resize_5 18 rfl rfl)
theorem dJ1_resize_138 : decode cJ1_resize 138 = .ok (.aload_n 0, 1) := dk_42 (dk_at dksJ1_resize_5 20 rfl rfl)
theorem dJ1_resize_139 : decode cJ1_resize 139 = .ok (.aload 6, 2) := dk_25 6 (dk_at dksJ1_resize_5 21 rfl rfl)
theorem dJ1_resize_141 : decode cJ1_resize 141 = .ok (.putfield 105, 3) := dk_181 0 105 (dk_at dksJ1_resize_6 0 rfl rfl)
theorem dJ1_resize_144 : decode cJ1_resize 144 = .ok (.aload_n 1, 1) := dk_43 (dk_at dksJ1_resize_6 3 rfl rfl)
theorem dJ1_resize_145 : decode cJ1_resize 145 = .ok (.ifnull 208, 3) := dk_198 0 208 (dk_at dksJ1_resize_6 4 rfl rfl)
theorem dJ1_resize_148 : decode cJ1_resize 148 = .ok (.iconst 0, 1) := dk_3 (dk_at dksJ1_resize_6 7 rfl rfl)
theorem dJ1_resize_149 : decode cJ1_resize 149 = .ok (.istore 7, 2) := dk_54 7 (dk_at dksJ1_resize_6 8 rfl rfl)
theorem dJ1_resize_151 : decode cJ1_resize 151 = .ok (.iload 7, 2) := dk_21 7 (dk_at dksJ1_resize_6 10 rfl rfl)
theorem dJ1_resize_153 : decode cJ1_resize 153 = .ok (.iload_n 2, 1) := dk_28 (dk_at dksJ1_resize_6 12 rfl rfl)
theorem dJ1_resize_154 : decode cJ1_resize 154 = .ok (.if_icmp .ge 199, 3) := dk_162 0 199 (dk_at dksJ1_resize_6 13 rfl rfl)
theorem dJ1_resize_157 : decode cJ1_resize 157 = .ok (.aload_n 1, 1) := dk_43 (dk_at dksJ1_resize_6 16 rfl rfl)
theorem dJ1_resize_158 : decode cJ1_resize 158 = .ok (.iload 7, 2) := dk_21 7 (dk_at dksJ1_resize_6 17 rfl rfl)
theorem dJ1_resize_160 : decode cJ1_resize 160 = .ok (.aaload, 1) := dk_50 (dk_at dksJ1_resize_6 19 rfl rfl)
theorem dJ1_resize_161 : decode cJ1_resize 161 = .ok (.dup, 1) := dk_89 (dk_at dksJ1_resize_6 20 rfl rfl)
theorem dJ1_resize_162 : decode cJ1_resize 162 = .ok (.astore 8, 2) := dk_58 8 (dk_at dksJ1_resize_6 21 rfl rfl)
theorem dJ1_resize_164 : decode cJ1_resize 164 = .ok (.ifnull 183, 3) := dk_198 0 183 (dk_at dksJ1_resize_7 0 rfl rfl)
theorem dJ1_resize_167 : decode cJ1_resize 167 = .ok (.aload_n 1, 1) := dk_43 (dk_at dksJ1_resize_7 3 rfl rfl)
theorem dJ1_resize_168 : decode cJ1_resize 168 = .ok (.iload 7, 2) := dk_21 7 (dk_at dksJ1_resize_7 4 rfl rfl)
theorem dJ1_resize_170 : decode cJ1_resize 170 = .ok (.aconst_null, 1) := dk_1 (dk_at dksJ1_resize_7 6 rfl rfl)
theorem dJ1_resize_171 : decode cJ1_resize 171 = .ok (.aastore, 1) := dk_83 (dk_at dksJ1_resize_7 7 rfl rfl)
theorem dJ1_resize_172 : decode cJ1_resize 172 = .ok (.aload 8, 2) := dk_25 8 (dk_at dksJ1_resize_7 8 rfl rfl)
theorem dJ1_resize_174 : decode cJ1_resize 174 = .ok (.getfield 177, 3) := dk_180 0 177 (dk_at dksJ1_resize_7 10 rfl rfl)
theorem dJ1_resize_177 : decode cJ1_resize 177 = .ok (.ifnonnull 21, 3) := dk_199 0 21 (dk_at dksJ1_resize_7 13 rfl rfl)
theorem dJ1_resize_180 : decode cJ1_resize 180 = .ok (.aload 6, 2) := dk_25 6 (dk_at dksJ1_resize_7 16 rfl rfl)
theorem dJ1_resize_182 : decode cJ1_resize 182 = .ok (.aload 8, 2) := dk_25 8 (dk_at dksJ1_resize_7 18 rfl rfl)
theorem dJ1_resize_184 : decode cJ1_resize 184 = .ok (.getfield 168, 3) := dk_180 0 168 (dk_at dksJ1_resize_7 20 rfl rfl)
theorem dJ1_resize_187 : decode cJ1_resize 187 = .ok (.iload 4, 2) := dk_21 4 (dk_at dksJ1_resize_8 0 rfl rfl)
theorem dJ1_resize_189 : decode cJ1_resize 189 = .ok (.iconst 1, 1) := dk_4 (dk_at dksJ1_resize_8 2 rfl rfl)
theorem dJ1_resize_190 : decode cJ1_resize 190 = .ok (.isub, 1) := dk_100 (dk_at dksJ1_resize_8 3 rfl rfl)
theorem dJ1_resize_191 : decode cJ1_resize 191 = .ok (.iand, 1) := dk_126 (dk_at dksJ1_resize_8 4 rfl rfl)
theorem dJ1_resize_192 : decode cJ1_resize 192 = .ok (.aload 8, 2) := dk_25 8 (dk_at dksJ1_resize_8 5 rfl rfl)
theorem dJ1_resize_194 : decode cJ1_resize 194 = .ok (.aastore, 1) := dk_83 (dk_at dksJ1_resize_8 7 rfl rfl)
theorem dJ1_resize_195 : decode cJ1_resize 195 = .ok (.goto 152, 3) := dk_167 0 152 (dk_at dksJ1_resize_8 8 rfl rfl)
theorem dJ1_resize_198 : decode cJ1_resize 198 = .ok (.aload 8, 2) := dk_25 8 (dk_at dksJ1_resize_8 11 rfl rfl)
theorem dJ1_resize_200 : decode cJ1_resize 200 = .ok (.instanceof 180, 3) := dk_193 0 180 (dk_at dksJ1_resize_8 13 rfl rfl)
theorem dJ1_resize_203 : decode cJ1_resize 203 = .ok (.ifCond .eq 20, 3) := dk_153 0 20 (dk_at dksJ1_resize_8 16 rfl rfl)
theorem dJ1_resize_206 : decode cJ1_resize 206 = .ok (.aload 8, 2) := dk_25 8 (dk_at dksJ1_resize_8 19 rfl rfl)
theorem dJ1_resize_208 : decode cJ1_resize 208 = .ok (.checkcast 180, 3) := dk_192 0 180 (dk_at dksJ1_resize_8 21 rfl rfl)
theorem dJ1_resize_211 : decode cJ1_resize 211 = .ok (.aload_n 0, 1) := dk_42 (dk_at dksJ1_resize_9 0 rfl rfl)
theorem dJ1_resize_212 : decode cJ1_resize 212 = .ok (.aload 6, 2) := dk_25 6 (dk_at dksJ1_resize_9 1 rfl rfl)
theorem dJ1_resize_214 : decode cJ1_resize 214 = .ok (.iload 7, 2) := dk_21 7 (dk_at dksJ1_resize_9 3 rfl rfl)
theorem dJ1_resize_216 : decode cJ1_resize 216 = .ok (.iload_n 2, 1) := dk_28 (dk_at dksJ1_resize_9 5 rfl rfl)
theorem dJ1_resize_217 : decode cJ1_resize 217 = .ok (.invokevirtual 211, 3) := dk_182 0 211 (dk_at dksJ1_resize_9 6 rfl rfl)
theorem dJ1_resize_220 : decode cJ1_resize 220 = .ok (.goto 127, 3) := dk_167 0 127 (dk_at dksJ1_resize_9 9 rfl rfl)
theorem dJ1_resize_223 : decode cJ1_resize 223 = .ok (.aconst_null, 1) := dk_1 (dk_at dksJ1_resize_9 12 rfl rfl)
theorem dJ1_resize_224 : decode cJ1_resize 224 = .ok (.astore 9, 2) := dk_58 9 (dk_at dksJ1_resize_9 13 rfl rfl)
theorem dJ1_resize_226 : decode cJ1_resize 226 = .ok (.aconst_null, 1) := dk_1 (dk_at dksJ1_resize_9 15 rfl rfl)
theorem dJ1_resize_227 : decode cJ1_resize 227 = .ok (.astore 10, 2) := dk_58 10 (dk_at dksJ1_resize_9 16 rfl rfl)
theorem dJ1_resize_229 : decode cJ1_resize 229 = .ok (.aconst_null, 1) := dk_1 (dk_at dksJ1_resize_9 18 rfl rfl)
theorem dJ1_resize_230 : decode cJ1_resize 230 = .ok (.astore 11, 2) := dk_58 11 (dk_at dksJ1_resize_9 19 rfl rfl)
theorem dJ1_resize_232 : decode cJ1_resize 232 = .ok (.aconst_null, 1) := dk_1 (dk_at dksJ1_resize_9 21 rfl rfl)
theorem dJ1_resize_233 : decode cJ1_resize 233 = .ok (.astore 12, 2) := dk_58 12 (dk_at dksJ1_resize_9 22 rfl rfl)
theorem dJ1_resize_235 : decode cJ1_resize 235 = .ok (.aload 8, 2) := dk_25 8 (dk_at dksJ1_resize_10 0 rfl rfl)
theorem dJ1_resize_237 : decode cJ1_resize 237 = .ok (.getfield 177, 3) := dk_180 0 177 (dk_at dksJ1_resize_10 2 rfl rfl)
theorem dJ1_resize_240 : decode cJ1_resize 240 = .ok (.astore 13, 2) := dk_58 13 (dk_at dksJ1_resize_10 5 rfl rfl)
theorem dJ1_resize_242 : decode cJ1_resize 242 = .ok (.aload 8, 2) := dk_25 8 (dk_at dksJ1_resize_10 7 rfl rfl)
theorem dJ1_resize_244 : decode cJ1_resize 244 = .ok (.getfield 168, 3) := dk_180 0 168 (dk_at dksJ1_resize_10 9 rfl rfl)
theorem dJ1_resize_247 : decode cJ1_resize 247 = .ok (.iload_n 2, 1) := dk_28 (dk_at dksJ1_resize_10 12 rfl rfl)
theorem dJ1_resize_248 : decode cJ1_resize 248 = .ok (.iand, 1) := dk_126 (dk_at dksJ1_resize_10 13 rfl rfl)
theorem dJ1_resize_249 : decode cJ1_resize 249 = .ok (.ifCond .ne 29, 3) := dk_154 0 29 (dk_at dksJ1_resize_10 14 rfl rfl)
theorem dJ1_resize_252 : decode cJ1_resize 252 = .ok (.aload 10, 2) := dk_25 10 (dk_at dksJ1_resize_10 17 rfl rfl)
theorem dJ1_resize_254 : decode cJ1_resize 254 = .ok (.ifnonnull 10, 3) := dk_199 0 10 (dk_at dksJ1_resize_10 19 rfl rfl)
theorem dJ1_resize_257 : decode cJ1_resize 257 = .ok (.aload 8, 2) := dk_25 8 (dk_at dksJ1_resize_10 22 rfl rfl)
theorem dJ1_resize_259 : decode cJ1_resize 259 = .ok (.astore 9, 2) := dk_58 9 (dk_at dksJ1_resize_11 0 rfl rfl)
theorem dJ1_resize_261 : decode cJ1_resize 261 = .ok (.goto 10, 3) := dk_167 0 10 (dk_at dksJ1_resize_11 2 rfl rfl)
theorem dJ1_resize_264 : decode cJ1_resize 264 = .ok (.aload 10, 2) := dk_25 10 (dk_at dksJ1_resize_11 5 rfl rfl)
theorem dJ1_resize_266 : decode cJ1_resize 266 = .ok (.aload 8, 2) := dk_25 8 (dk_at dksJ1_resize_11 7 rfl rfl)
theorem dJ1_resize_268 : decode cJ1_resize 268 = .ok (.putfield 177, 3) := dk_181 0 177 (dk_at dksJ1_resize_11 9 rfl rfl)
theorem dJ1_resize_271 : decode cJ1_resize 271 = .ok (.aload 8, 2) := dk_25 8 (dk_at dksJ1_resize_11 12 rfl rfl)
theorem dJ1_resize_273 : decode cJ1_resize 273 = .ok (.astore 10, 2) := dk_58 10 (dk_at dksJ1_resize_11 14 rfl rfl)
theorem dJ1_resize_275 : decode cJ1_resize 275 = .ok (.goto 26, 3) := dk_167 0 26 (dk_at dksJ1_resize_11 16 rfl rfl)
theorem dJ1_resize_278 : decode cJ1_resize 278 = .ok (.aload 12, 2) := dk_25 12 (dk_at dksJ1_resize_11 19 rfl rfl)
theorem dJ1_resize_280 : decode cJ1_resize 280 = .ok (.ifnonnull 10, 3) := dk_199 0 10 (dk_at dksJ1_resize_11 21 rfl rfl)
theorem dJ1_resize_283 : decode cJ1_resize 283 = .ok (.aload 8, 2) := dk_25 8 (dk_at dksJ1_resize_12 0 rfl rfl)
theorem dJ1_resize_285 : decode cJ1_resize 285 = .ok (.astore 11, 2) := dk_58 11 (dk_at dksJ1_resize_12 2 rfl rfl)
theorem dJ1_resize_287 : decode cJ1_resize 287 = .ok (.goto 10, 3) := dk_167 0 10 (dk_at dksJ1_resize_12 4 rfl rfl)
theorem dJ1_resize_290 : decode cJ1_resize 290 = .ok (.aload 12, 2) := dk_25 12 (dk_at dksJ1_resize_12 7 rfl rfl)
theorem dJ1_resize_292 : decode cJ1_resize 292 = .ok (.aload 8, 2) := dk_25 8 (dk_at dksJ1_resize_12 9 rfl rfl)
theorem dJ1_resize_294 : decode cJ1_resize 294 = .ok (.putfield 177, 3) := dk_181 0 177 (dk_at dksJ1_resize_12 11 rfl rfl)
theorem dJ1_resize_297 : decode cJ1_resize 297 = .ok (.aload 8, 2) := dk_25 8 (dk_at dksJ1_resize_12 14 rfl rfl)
theorem dJ1_resize_299 : decode cJ1_resize 299 = .ok (.astore 12, 2) := dk_58 12 (dk_at dksJ1_resize_12 16 rfl rfl)
theorem dJ1_resize_301 : decode cJ1_resize 301 = .ok (.aload 13, 2) := dk_25 13 (dk_at dksJ1_resize_12 18 rfl rfl)
theorem dJ1_resize_303 : decode cJ1_resize 303 = .ok (.dup, 1) := dk_89 (dk_at dksJ1_resize_12 20 rfl rfl)
theorem dJ1_resize_304 : decode cJ1_resize 304 = .ok (.astore 8, 2) := dk_58 8 (dk_at dksJ1_resize_12 21 rfl rfl)
theorem dJ1_resize_306 : decode cJ1_resize 306 = .ok (.ifnonnull (-71), 3) := dk_199 255 185 (dk_at dksJ1_resize_13 0 rfl rfl)
theorem dJ1_resize_309 : decode cJ1_resize 309 = .ok (.aload 10, 2) := dk_25 10 (dk_at dksJ1_resize_13 3 rfl rfl)
theorem dJ1_resize_311 : decode cJ1_resize 311 = .ok (.ifnull 16, 3) := dk_198 0 16 (dk_at dksJ1_resize_13 5 rfl rfl)
theorem dJ1_resize_314 : decode cJ1_resize 314 = .ok (.aload 10, 2) := dk_25 10 (dk_at dksJ1_resize_13 8 rfl rfl)
theorem dJ1_resize_316 : decode cJ1_resize 316 = .ok (.aconst_null, 1) := dk_1 (dk_at dksJ1_resize_13 10 rfl rfl)
theorem dJ1_resize_317 : decode cJ1_resize 317 = .ok (.putfield 177, 3) := dk_181 0 177 (dk_at dksJ1_resize_13 11 rfl rfl)
theorem dJ1_resize_320 : decode cJ1_resize 320 = .ok (.aload 6, 2) := dk_25 6 (dk_at dksJ1_resize_13 14 rfl rfl)
theorem dJ1_resize_322 : decode cJ1_resize 322 = .ok (.iload 7, 2) := dk_21 7 (dk_at dksJ1_resize_13 16 rfl rfl)
theorem dJ1_resize_324 : decode cJ1_resize 324 = .ok (.aload 9, 2) := dk_25 9 (dk_at dksJ1_resize_13 18 rfl rfl)
theorem dJ1_resize_326 : decode cJ1_resize 326 = .ok (.aastore, 1) := dk_83 (dk_at dksJ1_resize_13 20 rfl rfl)
theorem dJ1_resize_327 : decode cJ1_resize 327 = .ok (.aload 12, 2) := dk_25 12 (dk_at dksJ1_resize_13 21 rfl rfl)
theorem dJ1_resize_329 : decode cJ1_resize 329 = .ok (.ifnull 18, 3) := dk_198 0 18 (dk_at dksJ1_resize_14 0 rfl rfl)
theorem dJ1_resize_332 : decode cJ1_resize 332 = .ok (.aload 12, 2) := dk_25 12 (dk_at dksJ1_resize_14 3 rfl rfl)
theorem dJ1_resize_334 : decode cJ1_resize 334 = .ok (.aconst_null, 1) := dk_1 (dk_at dksJ1_resize_14 5 rfl rfl)
theorem dJ1_resize_335 : decode cJ1_resize 335 = .ok (.putfield 177, 3) := dk_181 0 177 (dk_at dksJ1_resize_14 6 rfl rfl)
theorem dJ1_resize_338 : decode cJ1_resize 338 = .ok (.aload 6, 2) := dk_25 6 (dk_at dksJ1_resize_14 9 rfl rfl)
theorem dJ1_resize_340 : decode cJ1_resize 340 = .ok (.iload 7, 2) := dk_21 7 (dk_at dksJ1_resize_14 11 rfl rfl)
theorem dJ1_resize_342 : decode cJ1_resize 342 = .ok (.iload_n 2, 1) := dk_28 (dk_at dksJ1_resize_14 13 rfl rfl)
theorem dJ1_resize_343 : decode cJ1_resize 343 = .ok (.iadd, 1) := dk_96 (dk_at dksJ1_resize_14 14 rfl rfl)
theorem dJ1_resize_344 : decode cJ1_resize 344 = .ok (.aload 11, 2) := dk_25 11 (dk_at dksJ1_resize_14 15 rfl rfl)
theorem dJ1_resize_346 : decode cJ1_resize 346 = .ok (.aastore, 1) := dk_83 (dk_at dksJ1_resize_14 17 rfl rfl)
theorem dJ1_resize_347 : decode cJ1_resize 347 = .ok (.iinc 7 1, 3) := dk_132 7 1 (dk_at dksJ1_resize_14 18 rfl rfl)
theorem dJ1_resize_350 : decode cJ1_resize 350 = .ok (.goto (-199), 3) := dk_167 255 57 (dk_at dksJ1_resize_14 21 rfl rfl)
theorem dJ1_resize_353 : decode cJ1_resize 353 = .ok (.aload 6, 2) := dk_25 6 (dk_at dksJ1_resize_15 0 rfl rfl)
theorem dJ1_resize_355 : decode cJ1_resize 355 = .ok (.areturn, 1) := dk_176 (dk_at dksJ1_resize_15 2 rfl rfl)
/-! java/util/HashMap.resize()[Ljava/util/HashMap$Node; -/
abbrev M_J1_resize (z0 n0 : Nat) (s' : gS) : gM := (RJ1, cJ1_resize, 14, (some (FieldType.array (FieldType.object "java/util/HashMap$Node"))), "resize", [], 1, z0, n0, s'.2.1, s'.2.2)
abbrev W_J1_resize (E : gE) (z0 n0 : Nat) (r : (Option Nat)) (s' : gS) (pc : Nat) (L : List (Nat × gV)) (st : List gV) (s : gS) : Prop := gW E (M_J1_resize z0 n0 s') (gQm E (M_J1_resize z0 n0 s') (.inl (some (vR r))) s') pc L st s
noncomputable def f_J1_resize_347 (κ : gK) (F : Nat) (k151 : Option Nat → Option Nat → Int32 → Int32 → Option Nat → Int32 → gS → Option ((Option Nat) × gS)) (l0 : Option Nat) (l1 : Option Nat) (l2 : Int32) (l4 : Int32) (l6 : Option Nat) (l7 : Int32) (s : gS) : Option ((Option Nat) × gS) :=
  k151 l0 l1 l2 l4 l6 (l7 + (1 : Int32)) s
set_option maxHeartbeats 4000000 in
theorem w_J1_resize_347 {E : gE} {F z0 n0 : Nat} {r : (Option Nat)} {s' : gS} {k151 : Option Nat → Option Nat → Int32 → Int32 → Option Nat → Int32 → gS → Option ((Option Nat) × gS)} (hk151 : ∀ (l0 : Option Nat) (l1 : Option Nat) (l2 : Int32) (l4 : Int32) (l6 : Option Nat) (l7 : Int32) (s : gS), k151 l0 l1 l2 l4 l6 l7 s = some (r, s') → W_J1_resize E z0 n0 r s' 151 [(0, vR l0), (1, vR l1), (2, vI l2), (4, vI l4), (6, vR l6), (7, vI l7)] [] s) : ∀ (l0 : Option Nat) (l1 : Option Nat) (l2 : Int32) (l4 : Int32) (l6 : Option Nat) (l7 : Int32)  (s : gS), f_J1_resize_347 (gk E) F k151 l0 l1 l2 l4 l6 l7 s = some (r, s') → W_J1_resize E z0 n0 r s' 347 [(0, vR l0), (1, vR l1), (2, vI l2), (4, vI l4), (6, vR l6), (7, vI l7)] [] s := by
  intro l0 l1 l2 l4 l6 l7 s hB
  unfold f_J1_resize_347 at hB
  refine gw_iinc (w := (1 : Int32)) (L' := [(7, vI (l7 + (1 : Int32))), (0, vR l0), (1, vR l1), (2, vI l2), (4, vI l4), (6, vR l6)]) 5 rfl (by decide) (Nat.le_of_ble_eq_true rfl) rfl dJ1_resize_347 ?_
  refine gw_goto (tgt := 151) dJ1_resize_350 (by decide) ?_
  exact gw_sub [1, 2, 3, 4, 5, 0] rfl (hk151 _ _ _ _ _ _ _ hB)
noncomputable def f_J1_resize_327 (κ : gK) (F : Nat) (k151 : Option Nat → Option Nat → Int32 → Int32 → Option Nat → Int32 → gS → Option ((Option Nat) × gS)) (l0 : Option Nat) (l1 : Option Nat) (l2 : Int32) (l4 : Int32) (l6 : Option Nat) (l7 : Int32) (l11 : Option Nat) (l12 : Option Nat) (s : gS) : Option ((Option Nat) × gS) :=
  if l12 = none then
    f_J1_resize_347 κ F k151 l0 l1 l2 l4 l6 l7 s
  else
    gB1 (gpf κ s l12 11 3 (va_rf none)) fun s1 =>
    gB1 (gsR κ s1 l6 (l7 + l2) l11) fun s2 =>
    f_J1_resize_347 κ F k151 l0 l1 l2 l4 l6 l7 s2
set_option maxHeartbeats 4000000 in
theorem w_J1_resize_327 {E : gE} {F z0 n0 : Nat} {r : (Option Nat)} {s' : gS} {k151 : Option Nat → Option Nat → Int32 → Int32 → Option Nat → Int32 → gS → Option ((Option Nat) × gS)} (hk151 : ∀ (l0 : Option Nat) (l1 : Option Nat) (l2 : Int32) (l4 : Int32) (l6 : Option Nat) (l7 : Int32) (s : gS), k151 l0 l1 l2 l4 l6 l7 s = some (r, s') → W_J1_resize E z0 n0 r s' 151 [(0, vR l0), (1, vR l1), (2, vI l2), (4, vI l4), (6, vR l6), (7, vI l7)] [] s) : ∀ (l0 : Option Nat) (l1 : Option Nat) (l2 : Int32) (l4 : Int32) (l6 : Option Nat) (l7 : Int32) (l11 : Option Nat) (l12 : Option Nat)  (s : gS), f_J1_resize_327 (gk E) F k151 l0 l1 l2 l4 l6 l7 l11 l12 s = some (r, s') → W_J1_resize E z0 n0 r s' 327 [(0, vR l0), (1, vR l1), (2, vI l2), (4, vI l4), (6, vR l6), (7, vI l7), (11, vR l11), (12, vR l12)] [] s := by
  intro l0 l1 l2 l4 l6 l7 l11 l12 s hB
  unfold f_J1_resize_327 at hB
  refine gw_aload 7 rfl dJ1_resize_327 ?_
  refine gw_ifnull (tgt := 347) dJ1_resize_329 (by decide) (fun hcnd => ?_) (fun hcnd => ?_)
  · rw [if_pos hcnd] at hB
    exact gw_sub [0, 1, 2, 3, 4, 5] rfl (w_J1_resize_347 hk151 _ _ _ _ _ _ _ hB)
  · rw [if_neg hcnd] at hB
    refine gw_aload 7 rfl dJ1_resize_332 ?_
    refine gw_null dJ1_resize_334 ?_
    obtain ⟨s1, hs1, hB⟩ := gB1_some hB
    refine gw_putf (C := RJ19) (T := TJ19) (N := 6) (k := 3) tyJ19 tyJ19_ok nmJ19 gcl11 (by decide) in_J19 q821 rfl (tyJ19_ok 3 (by decide)) (gNF_o _ _) hs1 dJ1_resize_335 ?_
    refine gw_aload 4 rfl dJ1_resize_338 ?_
    refine gw_iload 5 rfl dJ1_resize_340 ?_
    refine gw_iload_n 2 rfl dJ1_resize_342 ?_
    refine gw_iadd dJ1_resize_343 ?_
    refine gw_aload 6 rfl dJ1_resize_344 ?_
    obtain ⟨s2, hs2, hB⟩ := gB1_some hB
    refine gw_aastore hs2 dJ1_resize_346 ?_
    exact gw_sub [0, 1, 2, 3, 4, 5] rfl (w_J1_resize_347 hk151 _ _ _ _ _ _ _ hB)
noncomputable def f_J1_resize_301 (κ : gK) (F : Nat) (k151 : Option Nat → Option Nat → Int32 → Int32 → Option Nat → Int32 → gS → Option ((Option Nat) × gS)) (k235 : Option Nat → Option Nat → Int32 → Int32 → Option Nat → Int32 → Option Nat → Option Nat → Option Nat → Option Nat → Option Nat → gS → Option ((Option Nat) × gS)) (l0 : Option Nat) (l1 : Option Nat) (l2 : Int32) (l4 : Int32) (l6 : Option Nat) (l7 : Int32) (l9 : Option Nat) (l10 : Option Nat) (l11 : Option Nat) (l12 : Option Nat) (l13 : Option Nat) (s : gS) : Option ((Option Nat) × gS) :=
  if l13 = none then
    if l10 = none then
      f_J1_resize_327 κ F k151 l0 l1 l2 l4 l6 l7 l11 l12 s
    else
      gB1 (gpf κ s l10 11 3 (va_rf none)) fun s1 =>
      gB1 (gsR κ s1 l6 l7 l9) fun s2 =>
      f_J1_resize_327 κ F k151 l0 l1 l2 l4 l6 l7 l11 l12 s2
  else
    k235 l0 l1 l2 l4 l6 l7 l13 l9 l10 l11 l12 s
set_option maxHeartbeats 4000000 in
theorem w_J1_resize_301 {E : gE} {F z0 n0 : Nat} {r : (Option Nat)} {s' : gS} {k151 : Option Nat → Option Nat → Int32 → Int32 → Option Nat → Int32 → gS → Option ((Option Nat) × gS)} {k235 : Option Nat → Option Nat → Int32 → Int32 → Option Nat → Int32 → Option Nat → Option Nat → Option Nat → Option Nat → Option Nat → gS → Option ((Option Nat) × gS)} (hk151 : ∀ (l0 : Option Nat) (l1 : Option Nat) (l2 : Int32) (l4 : Int32) (l6 : Option Nat) (l7 : Int32) (s : gS), k151 l0 l1 l2 l4 l6 l7 s = some (r, s') → W_J1_resize E z0 n0 r s' 151 [(0, vR l0), (1, vR l1), (2, vI l2), (4, vI l4), (6, vR l6), (7, vI l7)] [] s) (hk235 : ∀ (l0 : Option Nat) (l1 : Option Nat) (l2 : Int32) (l4 : Int32) (l6 : Option Nat) (l7 : Int32) (l8 : Option Nat) (l9 : Option Nat) (l10 : Option Nat) (l11 : Option Nat) (l12 : Option Nat) (s : gS), k235 l0 l1 l2 l4 l6 l7 l8 l9 l10 l11 l12 s = some (r, s') → W_J1_resize E z0 n0 r s' 235 [(0, vR l0), (1, vR l1), (2, vI l2), (4, vI l4), (6, vR l6), (7, vI l7), (8, vR l8), (9, vR l9), (10, vR l10), (11, vR l11), (12, vR l12)] [] s) : ∀ (l0 : Option Nat) (l1 : Option Nat) (l2 : Int32) (l4 : Int32) (l6 : Option Nat) (l7 : Int32) (l9 : Option Nat) (l10 : Option Nat) (l11 : Option Nat) (l12 : Option Nat) (l13 : Option Nat)  (s : gS), f_J1_resize_301 (gk E) F k151 k235 l0 l1 l2 l4 l6 l7 l9 l10 l11 l12 l13 s = some (r, s') → W_J1_resize E z0 n0 r s' 301 [(0, vR l0), (1, vR l1), (2, vI l2), (4, vI l4), (6, vR l6), (7, vI l7), (9, vR l9), (10, vR l10), (11, vR l11), (12, vR l12), (13, vR l13)] [] s := by
  intro l0 l1 l2 l4 l6 l7 l9 l10 l11 l12 l13 s hB
  unfold f_J1_resize_301 at hB
  refine gw_aload 10 rfl dJ1_resize_301 ?_
  refine gw_dup rfl dJ1_resize_303 ?_
  refine gw_astore (L' := [(8, vR l13), (0, vR l0), (1, vR l1), (2, vI l2), (4, vI l4), (6, vR l6), (7, vI l7), (9, vR l9), (10, vR l10), (11, vR l11), (12, vR l12), (13, vR l13)]) (Nat.le_of_ble_eq_true rfl) rfl dJ1_resize_304 ?_
  refine gw_ifnonnull (tgt := 235) dJ1_resize_306 (by decide) (fun hcnd => ?_) (fun hcnd => ?_)
  · rw [if_neg hcnd] at hB
    exact gw_sub [1, 2, 3, 4, 5, 6, 0, 7, 8, 9, 10] rfl (hk235 _ _ _ _ _ _ _ _ _ _ _ _ hB)
  · rw [if_pos hcnd] at hB
    refine gw_aload 8 rfl dJ1_resize_309 ?_
    refine gw_ifnull (tgt := 327) dJ1_resize_311 (by decide) (fun hcnd => ?_) (fun hcnd => ?_)
    · rw [if_pos hcnd] at hB
      exact gw_sub [1, 2, 3, 4, 5, 6, 9, 10] rfl (w_J1_resize_327 hk151 _ _ _ _ _ _ _ _ _ hB)
    · rw [if_neg hcnd] at hB
      refine gw_aload 8 rfl dJ1_resize_314 ?_
      refine gw_null dJ1_resize_316 ?_
      obtain ⟨s1, hs1, hB⟩ := gB1_some hB
      refine gw_putf (C := RJ19) (T := TJ19) (N := 6) (k := 3) tyJ19 tyJ19_ok nmJ19 gcl11 (by decide) in_J19 q821 rfl (tyJ19_ok 3 (by decide)) (gNF_o _ _) hs1 dJ1_resize_317 ?_
      refine gw_aload 5 rfl dJ1_resize_320 ?_
      refine gw_iload 6 rfl dJ1_resize_322 ?_
      refine gw_aload 7 rfl dJ1_resize_324 ?_
      obtain ⟨s2, hs2, hB⟩ := gB1_some hB
      refine gw_aastore hs2 dJ1_resize_326 ?_
      exact gw_sub [1, 2, 3, 4, 5, 6, 9, 10] rfl (w_J1_resize_327 hk151 _ _ _ _ _ _ _ _ _ hB)
noncomputable def f_J1_resize_271 (κ : gK) (F : Nat) (k151 : Option Nat → Option Nat → Int32 → Int32 → Option Nat → Int32 → gS → Option ((Option Nat) × gS)) (k235 : Option Nat → Option Nat → Int32 → Int32 → Option Nat → Int32 → Option Nat → Option Nat → Option Nat → Option Nat → Option Nat → gS → Option ((Option Nat) × gS)) (l0 : Option Nat) (l1 : Option Nat) (l2 : Int32) (l4 : Int32) (l6 : Option Nat) (l7 : Int32) (l8 : Option Nat) (l9 : Option Nat) (l11 : Option Nat) (l12 : Option Nat) (l13 : Option Nat) (s : gS) : Option ((Option Nat) × gS) :=
  f_J1_resize_301 κ F k151 k235 l0 l1 l2 l4 l6 l7 l9 l8 l11 l12 l13 s
set_option maxHeartbeats 4000000 in
theorem w_J1_resize_271 {E : gE} {F z0 n0 : Nat} {r : (Option Nat)} {s' : gS} {k151 : Option Nat → Option Nat → Int32 → Int32 → Option Nat → Int32 → gS → Option ((Option Nat) × gS)} {k235 : Option Nat → Option Nat → Int32 → Int32 → Option Nat → Int32 → Option Nat → Option Nat → Option Nat → Option Nat → Option Nat → gS → Option ((Option Nat) × gS)} (hk151 : ∀ (l0 : Option Nat) (l1 : Option Nat) (l2 : Int32) (l4 : Int32) (l6 : Option Nat) (l7 : Int32) (s : gS), k151 l0 l1 l2 l4 l6 l7 s = some (r, s') → W_J1_resize E z0 n0 r s' 151 [(0, vR l0), (1, vR l1), (2, vI l2), (4, vI l4), (6, vR l6), (7, vI l7)] [] s) (hk235 : ∀ (l0 : Option Nat) (l1 : Option Nat) (l2 : Int32) (l4 : Int32) (l6 : Option Nat) (l7 : Int32) (l8 : Option Nat) (l9 : Option Nat) (l10 : Option Nat) (l11 : Option Nat) (l12 : Option Nat) (s : gS), k235 l0 l1 l2 l4 l6 l7 l8 l9 l10 l11 l12 s = some (r, s') → W_J1_resize E z0 n0 r s' 235 [(0, vR l0), (1, vR l1), (2, vI l2), (4, vI l4), (6, vR l6), (7, vI l7), (8, vR l8), (9, vR l9), (10, vR l10), (11, vR l11), (12, vR l12)] [] s) : ∀ (l0 : Option Nat) (l1 : Option Nat) (l2 : Int32) (l4 : Int32) (l6 : Option Nat) (l7 : Int32) (l8 : Option Nat) (l9 : Option Nat) (l11 : Option Nat) (l12 : Option Nat) (l13 : Option Nat)  (s : gS), f_J1_resize_271 (gk E) F k151 k235 l0 l1 l2 l4 l6 l7 l8 l9 l11 l12 l13 s = some (r, s') → W_J1_resize E z0 n0 r s' 271 [(0, vR l0), (1, vR l1), (2, vI l2), (4, vI l4), (6, vR l6), (7, vI l7), (8, vR l8), (9, vR l9), (11, vR l11), (12, vR l12), (13, vR l13)] [] s := by
  intro l0 l1 l2 l4 l6 l7 l8 l9 l11 l12 l13 s hB
  unfold f_J1_resize_271 at hB
  refine gw_aload 6 rfl dJ1_resize_271 ?_
  refine gw_astore (L' := [(10, vR l8), (0, vR l0), (1, vR l1), (2, vI l2), (4, vI l4), (6, vR l6), (7, vI l7), (8, vR l8), (9, vR l9), (11, vR l11), (12, vR l12), (13, vR l13)]) (Nat.le_of_ble_eq_true rfl) rfl dJ1_resize_273 ?_
  refine gw_goto (tgt := 301) dJ1_resize_275 (by decide) ?_
  exact gw_sub [1, 2, 3, 4, 5, 6, 8, 0, 9, 10, 11] rfl (w_J1_resize_301 hk151 hk235 _ _ _ _ _ _ _ _ _ _ _ _ hB)
noncomputable def f_J1_resize_297 (κ : gK) (F : Nat) (k151 : Option Nat → Option Nat → Int32 → Int32 → Option Nat → Int32 → gS → Option ((Option Nat) × gS)) (k235 : Option Nat → Option Nat → Int32 → Int32 → Option Nat → Int32 → Option Nat → Option Nat → Option Nat → Option Nat → Option Nat → gS → Option ((Option Nat) × gS)) (l0 : Option Nat) (l1 : Option Nat) (l2 : Int32) (l4 : Int32) (l6 : Option Nat) (l7 : Int32) (l8 : Option Nat) (l9 : Option Nat) (l10 : Option Nat) (l11 : Option Nat) (l13 : Option Nat) (s : gS) : Option ((Option Nat) × gS) :=
  f_J1_resize_301 κ F k151 k235 l0 l1 l2 l4 l6 l7 l9 l10 l11 l8 l13 s
set_option maxHeartbeats 4000000 in
theorem w_J1_resize_297 {E : gE} {F z0 n0 : Nat} {r : (Option Nat)} {s' : gS} {k151 : Option Nat → Option Nat → Int32 → Int32 → Option Nat → Int32 → gS → Option ((Option Nat) × gS)} {k235 : Option Nat → Option Nat → Int32 → Int32 → Option Nat → Int32 → Option Nat → Option Nat → Option Nat → Option Nat → Option Nat → gS → Option ((Option Nat) × gS)} (hk151 : ∀ (l0 : Option Nat) (l1 : Option Nat) (l2 : Int32) (l4 : Int32) (l6 : Option Nat) (l7 : Int32) (s : gS), k151 l0 l1 l2 l4 l6 l7 s = some (r, s') → W_J1_resize E z0 n0 r s' 151 [(0, vR l0), (1, vR l1), (2, vI l2), (4, vI l4), (6, vR l6), (7, vI l7)] [] s) (hk235 : ∀ (l0 : Option Nat) (l1 : Option Nat) (l2 : Int32) (l4 : Int32) (l6 : Option Nat) (l7 : Int32) (l8 : Option Nat) (l9 : Option Nat) (l10 : Option Nat) (l11 : Option Nat) (l12 : Option Nat) (s : gS), k235 l0 l1 l2 l4 l6 l7 l8 l9 l10 l11 l12 s = some (r, s') → W_J1_resize E z0 n0 r s' 235 [(0, vR l0), (1, vR l1), (2, vI l2), (4, vI l4), (6, vR l6), (7, vI l7), (8, vR l8), (9, vR l9), (10, vR l10), (11, vR l11), (12, vR l12)] [] s) : ∀ (l0 : Option Nat) (l1 : Option Nat) (l2 : Int32) (l4 : Int32) (l6 : Option Nat) (l7 : Int32) (l8 : Option Nat) (l9 : Option Nat) (l10 : Option Nat) (l11 : Option Nat) (l13 : Option Nat)  (s : gS), f_J1_resize_297 (gk E) F k151 k235 l0 l1 l2 l4 l6 l7 l8 l9 l10 l11 l13 s = some (r, s') → W_J1_resize E z0 n0 r s' 297 [(0, vR l0), (1, vR l1), (2, vI l2), (4, vI l4), (6, vR l6), (7, vI l7), (8, vR l8), (9, vR l9), (10, vR l10), (11, vR l11), (13, vR l13)] [] s := by
  intro l0 l1 l2 l4 l6 l7 l8 l9 l10 l11 l13 s hB
  unfold f_J1_resize_297 at hB
  refine gw_aload 6 rfl dJ1_resize_297 ?_
  refine gw_astore (L' := [(12, vR l8), (0, vR l0), (1, vR l1), (2, vI l2), (4, vI l4), (6, vR l6), (7, vI l7), (8, vR l8), (9, vR l9), (10, vR l10), (11, vR l11), (13, vR l13)]) (Nat.le_of_ble_eq_true rfl) rfl dJ1_resize_299 ?_
  exact gw_sub [1, 2, 3, 4, 5, 6, 8, 9, 10, 0, 11] rfl (w_J1_resize_301 hk151 hk235 _ _ _ _ _ _ _ _ _ _ _ _ hB)
noncomputable def f_J1_resize_235b (κ : gK) (F : Nat) (k151 : Option Nat → Option Nat → Int32 → Int32 → Option Nat → Int32 → gS → Option ((Option Nat) × gS)) (k235 : Option Nat → Option Nat → Int32 → Int32 → Option Nat → Int32 → Option Nat → Option Nat → Option Nat → Option Nat → Option Nat → gS → Option ((Option Nat) × gS)) (l0 : Option Nat) (l1 : Option Nat) (l2 : Int32) (l4 : Int32) (l6 : Option Nat) (l7 : Int32) (l8 : Option Nat) (l9 : Option Nat) (l10 : Option Nat) (l11 : Option Nat) (l12 : Option Nat) (s : gS) : Option ((Option Nat) × gS) :=
  gB1 (gfR s l8 11 3) fun v1 =>
  gB1 (gfI s l8 11 0) fun v2 =>
  if (v2 &&& l2) = 0 then
    if l10 = none then
      f_J1_resize_271 κ F k151 k235 l0 l1 l2 l4 l6 l7 l8 l8 l11 l12 v1 s
    else
      gB1 (gpf κ s l10 11 3 (va_rf l8)) fun s4 =>
      f_J1_resize_271 κ F k151 k235 l0 l1 l2 l4 l6 l7 l8 l9 l11 l12 v1 s4
  else
    if l12 = none then
      f_J1_resize_297 κ F k151 k235 l0 l1 l2 l4 l6 l7 l8 l9 l10 l8 v1 s
    else
      gB1 (gpf κ s l12 11 3 (va_rf l8)) fun s3 =>
      f_J1_resize_297 κ F k151 k235 l0 l1 l2 l4 l6 l7 l8 l9 l10 l11 v1 s3
noncomputable def f_J1_resize_235 (κ : gK) (F : Nat) (k151 : Option Nat → Option Nat → Int32 → Int32 → Option Nat → Int32 → gS → Option ((Option Nat) × gS)) : Nat → Option Nat → Option Nat → Int32 → Int32 → Option Nat → Int32 → Option Nat → Option Nat → Option Nat → Option Nat → Option Nat → gS → Option ((Option Nat) × gS)
  | 0 => fun _ _ _ _ _ _ _ _ _ _ _ _ => none
  | n + 1 => f_J1_resize_235b κ F k151 (f_J1_resize_235 κ F k151 n)
set_option maxHeartbeats 4000000 in
theorem w_J1_resize_235b {E : gE} {F z0 n0 : Nat} {r : (Option Nat)} {s' : gS} {k151 : Option Nat → Option Nat → Int32 → Int32 → Option Nat → Int32 → gS → Option ((Option Nat) × gS)} {k235 : Option Nat → Option Nat → Int32 → Int32 → Option Nat → Int32 → Option Nat → Option Nat → Option Nat → Option Nat → Option Nat → gS → Option ((Option Nat) × gS)} (hk151 : ∀ (l0 : Option Nat) (l1 : Option Nat) (l2 : Int32) (l4 : Int32) (l6 : Option Nat) (l7 : Int32) (s : gS), k151 l0 l1 l2 l4 l6 l7 s = some (r, s') → W_J1_resize E z0 n0 r s' 151 [(0, vR l0), (1, vR l1), (2, vI l2), (4, vI l4), (6, vR l6), (7, vI l7)] [] s) (hk235 : ∀ (l0 : Option Nat) (l1 : Option Nat) (l2 : Int32) (l4 : Int32) (l6 : Option Nat) (l7 : Int32) (l8 : Option Nat) (l9 : Option Nat) (l10 : Option Nat) (l11 : Option Nat) (l12 : Option Nat) (s : gS), k235 l0 l1 l2 l4 l6 l7 l8 l9 l10 l11 l12 s = some (r, s') → W_J1_resize E z0 n0 r s' 235 [(0, vR l0), (1, vR l1), (2, vI l2), (4, vI l4), (6, vR l6), (7, vI l7), (8, vR l8), (9, vR l9), (10, vR l10), (11, vR l11), (12, vR l12)] [] s) : ∀ (l0 : Option Nat) (l1 : Option Nat) (l2 : Int32) (l4 : Int32) (l6 : Option Nat) (l7 : Int32) (l8 : Option Nat) (l9 : Option Nat) (l10 : Option Nat) (l11 : Option Nat) (l12 : Option Nat)  (s : gS), f_J1_resize_235b (gk E) F k151 k235 l0 l1 l2 l4 l6 l7 l8 l9 l10 l11 l12 s = some (r, s') → W_J1_resize E z0 n0 r s' 235 [(0, vR l0), (1, vR l1), (2, vI l2), (4, vI l4), (6, vR l6), (7, vI l7), (8, vR l8), (9, vR l9), (10, vR l10), (11, vR l11), (12, vR l12)] [] s := by
  intro l0 l1 l2 l4 l6 l7 l8 l9 l10 l11 l12 s hB
  unfold f_J1_resize_235b at hB
  refine gw_aload 6 rfl dJ1_resize_235 ?_
  obtain ⟨v1, hv1, hB⟩ := gB1_some hB
  refine gw_getf (C := RJ19) (T := TJ19) (N := 6) (k := 3) gcl11 (by decide) in_J19 q821 (gfR_spec hv1) dJ1_resize_237 ?_
  refine gw_astore (L' := [(13, vR v1), (0, vR l0), (1, vR l1), (2, vI l2), (4, vI l4), (6, vR l6), (7, vI l7), (8, vR l8), (9, vR l9), (10, vR l10), (11, vR l11), (12, vR l12)]) (Nat.le_of_ble_eq_true rfl) rfl dJ1_resize_240 ?_
  refine gw_aload 7 rfl dJ1_resize_242 ?_
  obtain ⟨v2, hv2, hB⟩ := gB1_some hB
  refine gw_getf (C := RJ19) (T := TJ19) (N := 6) (k := 0) gcl11 (by decide) in_J19 q803 (gfI_spec hv2) dJ1_resize_244 ?_
  refine gw_iload_n 3 rfl dJ1_resize_247 ?_
  refine gw_iand dJ1_resize_248 ?_
  refine gw_if_ne (tgt := 278) dJ1_resize_249 (by decide) (fun hcnd => ?_) (fun hcnd => ?_)
  · rw [if_neg hcnd] at hB
    refine gw_aload 11 rfl dJ1_resize_278 ?_
    refine gw_ifnonnull (tgt := 290) dJ1_resize_280 (by decide) (fun hcnd => ?_) (fun hcnd => ?_)
    · rw [if_neg hcnd] at hB
      refine gw_aload 11 rfl dJ1_resize_290 ?_
      refine gw_aload 7 rfl dJ1_resize_292 ?_
      obtain ⟨s3, hs3, hB⟩ := gB1_some hB
      refine gw_putf (C := RJ19) (T := TJ19) (N := 6) (k := 3) tyJ19 tyJ19_ok nmJ19 gcl11 (by decide) in_J19 q821 rfl (tyJ19_ok 3 (by decide)) (gNF_o _ _) hs3 dJ1_resize_294 ?_
      exact gw_sub [1, 2, 3, 4, 5, 6, 7, 8, 9, 10, 0] rfl (w_J1_resize_297 hk151 hk235 _ _ _ _ _ _ _ _ _ _ _ _ hB)
    · rw [if_pos hcnd] at hB
      refine gw_aload 7 rfl dJ1_resize_283 ?_
      refine gw_astore (L' := [(11, vR l8), (13, vR v1), (0, vR l0), (1, vR l1), (2, vI l2), (4, vI l4), (6, vR l6), (7, vI l7), (8, vR l8), (9, vR l9), (10, vR l10), (12, vR l12)]) (Nat.le_of_ble_eq_true rfl) rfl dJ1_resize_285 ?_
      refine gw_goto (tgt := 297) dJ1_resize_287 (by decide) ?_
      exact gw_sub [2, 3, 4, 5, 6, 7, 8, 9, 10, 0, 1] rfl (w_J1_resize_297 hk151 hk235 _ _ _ _ _ _ _ _ _ _ _ _ hB)
  · rw [if_pos hcnd] at hB
    refine gw_aload 9 rfl dJ1_resize_252 ?_
    refine gw_ifnonnull (tgt := 264) dJ1_resize_254 (by decide) (fun hcnd => ?_) (fun hcnd => ?_)
    · rw [if_neg hcnd] at hB
      refine gw_aload 9 rfl dJ1_resize_264 ?_
      refine gw_aload 7 rfl dJ1_resize_266 ?_
      obtain ⟨s4, hs4, hB⟩ := gB1_some hB
      refine gw_putf (C := RJ19) (T := TJ19) (N := 6) (k := 3) tyJ19 tyJ19_ok nmJ19 gcl11 (by decide) in_J19 q821 rfl (tyJ19_ok 3 (by decide)) (gNF_o _ _) hs4 dJ1_resize_268 ?_
      exact gw_sub [1, 2, 3, 4, 5, 6, 7, 8, 10, 11, 0] rfl (w_J1_resize_271 hk151 hk235 _ _ _ _ _ _ _ _ _ _ _ _ hB)
    · rw [if_pos hcnd] at hB
      refine gw_aload 7 rfl dJ1_resize_257 ?_
      refine gw_astore (L' := [(9, vR l8), (13, vR v1), (0, vR l0), (1, vR l1), (2, vI l2), (4, vI l4), (6, vR l6), (7, vI l7), (8, vR l8), (10, vR l10), (11, vR l11), (12, vR l12)]) (Nat.le_of_ble_eq_true rfl) rfl dJ1_resize_259 ?_
      refine gw_goto (tgt := 271) dJ1_resize_261 (by decide) ?_
      exact gw_sub [2, 3, 4, 5, 6, 7, 8, 0, 10, 11, 1] rfl (w_J1_resize_271 hk151 hk235 _ _ _ _ _ _ _ _ _ _ _ _ hB)
theorem w_J1_resize_235 {E : gE} {F z0 n0 : Nat} {r : (Option Nat)} {s' : gS} {k151 : Option Nat → Option Nat → Int32 → Int32 → Option Nat → Int32 → gS → Option ((Option Nat) × gS)} (hk151 : ∀ (l0 : Option Nat) (l1 : Option Nat) (l2 : Int32) (l4 : Int32) (l6 : Option Nat) (l7 : Int32) (s : gS), k151 l0 l1 l2 l4 l6 l7 s = some (r, s') → W_J1_resize E z0 n0 r s' 151 [(0, vR l0), (1, vR l1), (2, vI l2), (4, vI l4), (6, vR l6), (7, vI l7)] [] s) : ∀ (n : Nat) (l0 : Option Nat) (l1 : Option Nat) (l2 : Int32) (l4 : Int32) (l6 : Option Nat) (l7 : Int32) (l8 : Option Nat) (l9 : Option Nat) (l10 : Option Nat) (l11 : Option Nat) (l12 : Option Nat)  (s : gS), f_J1_resize_235 (gk E) F k151 n l0 l1 l2 l4 l6 l7 l8 l9 l10 l11 l12 s = some (r, s') → W_J1_resize E z0 n0 r s' 235 [(0, vR l0), (1, vR l1), (2, vI l2), (4, vI l4), (6, vR l6), (7, vI l7), (8, vR l8), (9, vR l9), (10, vR l10), (11, vR l11), (12, vR l12)] [] s := by
  intro n
  induction n with
  | zero => intro l0 l1 l2 l4 l6 l7 l8 l9 l10 l11 l12 s hB; cases hB
  | succ n ih => intro l0 l1 l2 l4 l6 l7 l8 l9 l10 l11 l12 s hB; exact w_J1_resize_235b hk151 ih l0 l1 l2 l4 l6 l7 l8 l9 l10 l11 l12 s hB
noncomputable def f_J1_resize_353 (κ : gK) (F : Nat)  (l6 : Option Nat) (s : gS) : Option ((Option Nat) × gS) :=
  some (l6, s)
set_option maxHeartbeats 4000000 in
theorem w_J1_resize_353 {E : gE} {F z0 n0 : Nat} {r : (Option Nat)} {s' : gS}   : ∀ (l6 : Option Nat)  (s : gS), f_J1_resize_353 (gk E) F  l6 s = some (r, s') → W_J1_resize E z0 n0 r s' 353 [(6, vR l6)] [] s := by
  intro l6 s hB
  unfold f_J1_resize_353 at hB
  refine gw_aload 0 rfl dJ1_resize_353 ?_
  obtain ⟨rfl, rfl⟩ := Prod.mk.inj (Option.some.inj hB)
  exact gw_aret rfl (Or.inr ⟨_, rfl⟩) rfl rfl dJ1_resize_355
noncomputable def f_J1_resize_151b (κ : gK) (F : Nat) (k151 : Option Nat → Option Nat → Int32 → Int32 → Option Nat → Int32 → gS → Option ((Option Nat) × gS)) (l0 : Option Nat) (l1 : Option Nat) (l2 : Int32) (l4 : Int32) (l6 : Option Nat) (l7 : Int32) (s : gS) : Option ((Option Nat) × gS) :=
  if l2 ≤ l7 then
    f_J1_resize_353 κ F  l6 s
  else
    gB1 (gaR s l1 l7) fun v1 =>
    if v1 = none then
      f_J1_resize_347 κ F k151 l0 l1 l2 l4 l6 l7 s
    else
      gB1 (gsR κ s l1 l7 none) fun s2 =>
      gB1 (gfR s2 v1 11 3) fun v3 =>
      if v3 = none then
        gB1 (gfI s2 v1 11 0) fun v6 =>
        gB1 (gsR κ s2 l6 (v6 &&& (l4 - (1 : Int32))) v1) fun s7 =>
        f_J1_resize_347 κ F k151 l0 l1 l2 l4 l6 l7 s7
      else
        gB1 (gio s2 v1 [] [11]) fun v4 =>
        if v4 = 0 then
          f_J1_resize_235 κ F k151 F l0 l1 l2 l4 l6 l7 v1 none none none none s2
        else
          none
noncomputable def f_J1_resize_151 (κ : gK) (F : Nat)  : Nat → Option Nat → Option Nat → Int32 → Int32 → Option Nat → Int32 → gS → Option ((Option Nat) × gS)
  | 0 => fun _ _ _ _ _ _ _ => none
  | n + 1 => f_J1_resize_151b κ F  (f_J1_resize_151 κ F  n)
set_option maxHeartbeats 4000000 in
theorem w_J1_resize_151b {E : gE} {F z0 n0 : Nat} {r : (Option Nat)} {s' : gS} {k151 : Option Nat → Option Nat → Int32 → Int32 → Option Nat → Int32 → gS → Option ((Option Nat) × gS)} (hk151 : ∀ (l0 : Option Nat) (l1 : Option Nat) (l2 : Int32) (l4 : Int32) (l6 : Option Nat) (l7 : Int32) (s : gS), k151 l0 l1 l2 l4 l6 l7 s = some (r, s') → W_J1_resize E z0 n0 r s' 151 [(0, vR l0), (1, vR l1), (2, vI l2), (4, vI l4), (6, vR l6), (7, vI l7)] [] s) : ∀ (l0 : Option Nat) (l1 : Option Nat) (l2 : Int32) (l4 : Int32) (l6 : Option Nat) (l7 : Int32)  (s : gS), f_J1_resize_151b (gk E) F k151 l0 l1 l2 l4 l6 l7 s = some (r, s') → W_J1_resize E z0 n0 r s' 151 [(0, vR l0), (1, vR l1), (2, vI l2), (4, vI l4), (6, vR l6), (7, vI l7)] [] s := by
  intro l0 l1 l2 l4 l6 l7 s hB
  unfold f_J1_resize_151b at hB
  refine gw_iload 5 rfl dJ1_resize_151 ?_
  refine gw_iload_n 2 rfl dJ1_resize_153 ?_
  refine gw_icmp_ge (tgt := 353) dJ1_resize_154 (by decide) (fun hcnd => ?_) (fun hcnd => ?_)
  · rw [if_pos hcnd] at hB
    exact gw_sub [4] rfl (w_J1_resize_353  _ _ hB)
  · rw [if_neg hcnd] at hB
    refine gw_aload_n 1 rfl dJ1_resize_157 ?_
    refine gw_iload 5 rfl dJ1_resize_158 ?_
    obtain ⟨v1, hv1, hB⟩ := gB1_some hB
    refine gw_aaload hv1 dJ1_resize_160 ?_
    refine gw_dup rfl dJ1_resize_161 ?_
    refine gw_astore (L' := [(8, vR v1), (0, vR l0), (1, vR l1), (2, vI l2), (4, vI l4), (6, vR l6), (7, vI l7)]) (Nat.le_of_ble_eq_true rfl) rfl dJ1_resize_162 ?_
    refine gw_ifnull (tgt := 347) dJ1_resize_164 (by decide) (fun hcnd => ?_) (fun hcnd => ?_)
    · rw [if_pos hcnd] at hB
      exact gw_sub [1, 2, 3, 4, 5, 6] rfl (w_J1_resize_347 hk151 _ _ _ _ _ _ _ hB)
    · rw [if_neg hcnd] at hB
      refine gw_aload_n 2 rfl dJ1_resize_167 ?_
      refine gw_iload 6 rfl dJ1_resize_168 ?_
      refine gw_null dJ1_resize_170 ?_
      obtain ⟨s2, hs2, hB⟩ := gB1_some hB
      refine gw_aastore hs2 dJ1_resize_171 ?_
      refine gw_aload 0 rfl dJ1_resize_172 ?_
      obtain ⟨v3, hv3, hB⟩ := gB1_some hB
      refine gw_getf (C := RJ19) (T := TJ19) (N := 6) (k := 3) gcl11 (by decide) in_J19 q821 (gfR_spec hv3) dJ1_resize_174 ?_
      refine gw_ifnonnull (tgt := 198) dJ1_resize_177 (by decide) (fun hcnd => ?_) (fun hcnd => ?_)
      · rw [if_neg hcnd] at hB
        refine gw_aload 0 rfl dJ1_resize_198 ?_
        obtain ⟨v4, hv4, hB⟩ := gB1_some hB
        refine gw_inst (ys := []) (ns := [11]) gisY_java_util_HashMap_TreeNode gisN_java_util_HashMap_TreeNode hv4 q769 dJ1_resize_200 ?_
        refine gw_if_eq (tgt := 223) dJ1_resize_203 (by decide) (fun hcnd => ?_) (fun hcnd => ?_)
        · rw [if_pos hcnd] at hB
          refine gw_null dJ1_resize_223 ?_
          refine gw_astore (L' := [(9, vR none), (8, vR v1), (0, vR l0), (1, vR l1), (2, vI l2), (4, vI l4), (6, vR l6), (7, vI l7)]) (Nat.le_of_ble_eq_true rfl) rfl dJ1_resize_224 ?_
          refine gw_null dJ1_resize_226 ?_
          refine gw_astore (L' := [(10, vR none), (9, vR none), (8, vR v1), (0, vR l0), (1, vR l1), (2, vI l2), (4, vI l4), (6, vR l6), (7, vI l7)]) (Nat.le_of_ble_eq_true rfl) rfl dJ1_resize_227 ?_
          refine gw_null dJ1_resize_229 ?_
          refine gw_astore (L' := [(11, vR none), (10, vR none), (9, vR none), (8, vR v1), (0, vR l0), (1, vR l1), (2, vI l2), (4, vI l4), (6, vR l6), (7, vI l7)]) (Nat.le_of_ble_eq_true rfl) rfl dJ1_resize_230 ?_
          refine gw_null dJ1_resize_232 ?_
          refine gw_astore (L' := [(12, vR none), (11, vR none), (10, vR none), (9, vR none), (8, vR v1), (0, vR l0), (1, vR l1), (2, vI l2), (4, vI l4), (6, vR l6), (7, vI l7)]) (Nat.le_of_ble_eq_true rfl) rfl dJ1_resize_233 ?_
          exact gw_sub [5, 6, 7, 8, 9, 10, 4, 3, 2, 1, 0] rfl (w_J1_resize_235 hk151 F _ _ _ _ _ _ _ _ _ _ _ _ hB)
        · rw [if_neg hcnd] at hB
          refine gw_aload 0 rfl dJ1_resize_206 ?_
          cases hB
      · rw [if_pos hcnd] at hB
        refine gw_aload 5 rfl dJ1_resize_180 ?_
        refine gw_aload 0 rfl dJ1_resize_182 ?_
        obtain ⟨v6, hv6, hB⟩ := gB1_some hB
        refine gw_getf (C := RJ19) (T := TJ19) (N := 6) (k := 0) gcl11 (by decide) in_J19 q803 (gfI_spec hv6) dJ1_resize_184 ?_
        refine gw_iload 4 rfl dJ1_resize_187 ?_
        refine gw_iconst (v := (1 : Int32)) (by decide) dJ1_resize_189 ?_
        refine gw_isub dJ1_resize_190 ?_
        refine gw_iand dJ1_resize_191 ?_
        refine gw_aload 0 rfl dJ1_resize_192 ?_
        obtain ⟨s7, hs7, hB⟩ := gB1_some hB
        refine gw_aastore hs7 dJ1_resize_194 ?_
        refine gw_goto (tgt := 347) dJ1_resize_195 (by decide) ?_
        exact gw_sub [1, 2, 3, 4, 5, 6] rfl (w_J1_resize_347 hk151 _ _ _ _ _ _ _ hB)
theorem w_J1_resize_151 {E : gE} {F z0 n0 : Nat} {r : (Option Nat)} {s' : gS}   : ∀ (n : Nat) (l0 : Option Nat) (l1 : Option Nat) (l2 : Int32) (l4 : Int32) (l6 : Option Nat) (l7 : Int32)  (s : gS), f_J1_resize_151 (gk E) F  n l0 l1 l2 l4 l6 l7 s = some (r, s') → W_J1_resize E z0 n0 r s' 151 [(0, vR l0), (1, vR l1), (2, vI l2), (4, vI l4), (6, vR l6), (7, vI l7)] [] s := by
  intro n
  induction n with
  | zero => intro l0 l1 l2 l4 l6 l7 s hB; cases hB
  | succ n ih => intro l0 l1 l2 l4 l6 l7 s hB; exact w_J1_resize_151b ih l0 l1 l2 l4 l6 l7 s hB
noncomputable def f_J1_resize_125 (κ : gK) (F : Nat)  (l0 : Option Nat) (l1 : Option Nat) (l2 : Int32) (l4 : Int32) (l5 : Int32) (s : gS) : Option ((Option Nat) × gS) :=
  gB1 (gpf κ s l0 10 4 (.int l5)) fun s1 =>
  gB2 (gna s1 7 l4) fun v2 s3 =>
  gB1 (gpf κ s3 l0 10 0 (va_rf v2)) fun s4 =>
  if l1 = none then
    f_J1_resize_353 κ F  v2 s4
  else
    f_J1_resize_151 κ F  F l0 l1 l2 l4 v2 (0 : Int32) s4
set_option maxHeartbeats 4000000 in
theorem w_J1_resize_125 {E : gE} {F z0 n0 : Nat} {r : (Option Nat)} {s' : gS}   : ∀ (l0 : Option Nat) (l1 : Option Nat) (l2 : Int32) (l4 : Int32) (l5 : Int32)  (s : gS), f_J1_resize_125 (gk E) F  l0 l1 l2 l4 l5 s = some (r, s') → W_J1_resize E z0 n0 r s' 125 [(0, vR l0), (1, vR l1), (2, vI l2), (4, vI l4), (5, vI l5)] [] s := by
  intro l0 l1 l2 l4 l5 s hB
  unfold f_J1_resize_125 at hB
  refine gw_aload_n 0 rfl dJ1_resize_125 ?_
  refine gw_iload 4 rfl dJ1_resize_126 ?_
  obtain ⟨s1, hs1, hB⟩ := gB1_some hB
  refine gw_putf (C := RJ2) (T := TJ2) (N := 12) (k := 4) tyJ2 tyJ2_ok nmJ2 gcl10 (by decide) in_J2 q244 rfl (tyJ2_ok 4 (by decide)) (gNF_i _) hs1 dJ1_resize_128 ?_
  refine gw_iload 3 rfl dJ1_resize_131 ?_
  obtain ⟨v2, s3, hv2, hB⟩ := gB2_some hB
  refine gw_anewarr (C := "java/util/HashMap$Node") (t := 7) (by decide) rfl q767 q768 hv2 dJ1_resize_133 ?_
  refine gw_astore (L' := [(6, vR v2), (0, vR l0), (1, vR l1), (2, vI l2), (4, vI l4), (5, vI l5)]) (Nat.le_of_ble_eq_true rfl) rfl dJ1_resize_136 ?_
  refine gw_aload_n 1 rfl dJ1_resize_138 ?_
  refine gw_aload 0 rfl dJ1_resize_139 ?_
  obtain ⟨s4, hs4, hB⟩ := gB1_some hB
  refine gw_putf (C := RJ2) (T := TJ2) (N := 12) (k := 0) tyJ2 tyJ2_ok nmJ2 gcl10 (by decide) in_J2 q236 rfl (tyJ2_ok 0 (by decide)) (gNF_a _ _) hs4 dJ1_resize_141 ?_
  refine gw_aload_n 2 rfl dJ1_resize_144 ?_
  refine gw_ifnull (tgt := 353) dJ1_resize_145 (by decide) (fun hcnd => ?_) (fun hcnd => ?_)
  · rw [if_pos hcnd] at hB
    exact gw_sub [0] rfl (w_J1_resize_353  _ _ hB)
  · rw [if_neg hcnd] at hB
    refine gw_iconst (v := (0 : Int32)) (by decide) dJ1_resize_148 ?_
    refine gw_istore (L' := [(7, vI (0 : Int32)), (6, vR v2), (0, vR l0), (1, vR l1), (2, vI l2), (4, vI l4), (5, vI l5)]) (Nat.le_of_ble_eq_true rfl) rfl dJ1_resize_149 ?_
    exact gw_sub [2, 3, 4, 5, 1, 0] rfl (w_J1_resize_151  F _ _ _ _ _ _ _ hB)
noncomputable def f_J1_resize_123 (κ : gK) (F : Nat)  (l0 : Option Nat) (l1 : Option Nat) (l2 : Int32) (l4 : Int32) (t0 : Int32) (s : gS) : Option ((Option Nat) × gS) :=
  f_J1_resize_125 κ F  l0 l1 l2 l4 t0 s
set_option maxHeartbeats 4000000 in
theorem w_J1_resize_123 {E : gE} {F z0 n0 : Nat} {r : (Option Nat)} {s' : gS}   : ∀ (l0 : Option Nat) (l1 : Option Nat) (l2 : Int32) (l4 : Int32) (t0 : Int32) (s : gS), f_J1_resize_123 (gk E) F  l0 l1 l2 l4 t0 s = some (r, s') → W_J1_resize E z0 n0 r s' 123 [(0, vR l0), (1, vR l1), (2, vI l2), (4, vI l4)] [vI t0] s := by
  intro l0 l1 l2 l4 t0 s hB
  unfold f_J1_resize_123 at hB
  refine gw_istore (L' := [(5, vI t0), (0, vR l0), (1, vR l1), (2, vI l2), (4, vI l4)]) (Nat.le_of_ble_eq_true rfl) rfl dJ1_resize_123 ?_
  exact gw_sub [1, 2, 3, 4, 0] rfl (w_J1_resize_125  _ _ _ _ _ _ hB)
noncomputable def f_J1_resize_121 (κ : gK) (F : Nat)  (l0 : Option Nat) (l1 : Option Nat) (l2 : Int32) (l4 : Int32) (s : gS) : Option ((Option Nat) × gS) :=
  f_J1_resize_123 κ F  l0 l1 l2 l4 (2147483647 : Int32) s
set_option maxHeartbeats 4000000 in
theorem w_J1_resize_121 {E : gE} {F z0 n0 : Nat} {r : (Option Nat)} {s' : gS}   : ∀ (l0 : Option Nat) (l1 : Option Nat) (l2 : Int32) (l4 : Int32)  (s : gS), f_J1_resize_121 (gk E) F  l0 l1 l2 l4 s = some (r, s') → W_J1_resize E z0 n0 r s' 121 [(0, vR l0), (1, vR l1), (2, vI l2), (4, vI l4)] [] s := by
  intro l0 l1 l2 l4 s hB
  unfold f_J1_resize_121 at hB
  refine gw_ldc (2147483647 : Int32) q765 dJ1_resize_121 ?_
  exact gw_sub [0, 1, 2, 3] rfl (w_J1_resize_123  _ _ _ _ _ _ hB)
noncomputable def f_J1_resize_85 (κ : gK) (F : Nat)  (l0 : Option Nat) (l1 : Option Nat) (l2 : Int32) (l4 : Int32) (l5 : Int32) (s : gS) : Option ((Option Nat) × gS) :=
  if l5 = 0 then
    gB1 (gfF s l0 10 5) fun v1 =>
    gB1 (gfn (FP.fmul (FP.i2f l4) v1)) fun _ =>
    if (1073741824 : Int32) ≤ l4 then
      f_J1_resize_121 κ F  l0 l1 l2 l4 s
    else
      if 0 ≤ (Op.cmpValue (FP.fcmp (FP.fmul (FP.i2f l4) v1) (1317011456 : UInt32)) .g) then
        f_J1_resize_121 κ F  l0 l1 l2 l4 s
      else
        f_J1_resize_123 κ F  l0 l1 l2 l4 (FP.f2i (FP.fmul (FP.i2f l4) v1)) s
  else
    f_J1_resize_125 κ F  l0 l1 l2 l4 l5 s
set_option maxHeartbeats 4000000 in
theorem w_J1_resize_85 {E : gE} {F z0 n0 : Nat} {r : (Option Nat)} {s' : gS}   : ∀ (l0 : Option Nat) (l1 : Option Nat) (l2 : Int32) (l4 : Int32) (l5 : Int32)  (s : gS), f_J1_resize_85 (gk E) F  l0 l1 l2 l4 l5 s = some (r, s') → W_J1_resize E z0 n0 r s' 85 [(0, vR l0), (1, vR l1), (2, vI l2), (4, vI l4), (5, vI l5)] [] s := by
  intro l0 l1 l2 l4 l5 s hB
  unfold f_J1_resize_85 at hB
  refine gw_iload 4 rfl dJ1_resize_85 ?_
  refine gw_if_ne (tgt := 125) dJ1_resize_87 (by decide) (fun hcnd => ?_) (fun hcnd => ?_)
  · rw [if_neg hcnd] at hB
    exact gw_sub [0, 1, 2, 3, 4] rfl (w_J1_resize_125  _ _ _ _ _ _ hB)
  · rw [if_pos hcnd] at hB
    refine gw_iload 3 rfl dJ1_resize_90 ?_
    refine gw_i2f dJ1_resize_92 ?_
    refine gw_aload_n 0 rfl dJ1_resize_93 ?_
    obtain ⟨v1, hv1, hB⟩ := gB1_some hB
    refine gw_getf (C := RJ2) (T := TJ2) (N := 12) (k := 5) gcl10 (by decide) in_J2 q245 (gfF_spec hv1) dJ1_resize_94 ?_
    obtain ⟨u0, hu2, hB⟩ := gB1_some hB
    refine gw_fmul (gfn_spec hu2) dJ1_resize_97 ?_
    refine gw_fstore (L' := [(6, vF (FP.fmul (FP.i2f l4) v1)), (0, vR l0), (1, vR l1), (2, vI l2), (4, vI l4), (5, vI l5)]) (Nat.le_of_ble_eq_true rfl) rfl dJ1_resize_98 ?_
    refine gw_iload 4 rfl dJ1_resize_100 ?_
    refine gw_ldc (1073741824 : Int32) q764 dJ1_resize_102 ?_
    refine gw_icmp_ge (tgt := 121) dJ1_resize_104 (by decide) (fun hcnd => ?_) (fun hcnd => ?_)
    · rw [if_pos hcnd] at hB
      exact gw_sub [1, 2, 3, 4] rfl (w_J1_resize_121  _ _ _ _ _ hB)
    · rw [if_neg hcnd] at hB
      refine gw_fload 0 rfl dJ1_resize_107 ?_
      refine gw_ldcf (1317011456 : UInt32) q766 dJ1_resize_109 ?_
      refine gw_fcmp dJ1_resize_111 ?_
      refine gw_if_ge (tgt := 121) dJ1_resize_112 (by decide) (fun hcnd => ?_) (fun hcnd => ?_)
      · rw [if_pos hcnd] at hB
        exact gw_sub [1, 2, 3, 4] rfl (w_J1_resize_121  _ _ _ _ _ hB)
      · rw [if_neg hcnd] at hB
        refine gw_fload 0 rfl dJ1_resize_115 ?_
        refine gw_f2i dJ1_resize_117 ?_
        refine gw_goto (tgt := 123) dJ1_resize_118 (by decide) ?_
        exact gw_sub [1, 2, 3, 4] rfl (w_J1_resize_123  _ _ _ _ _ _ hB)
noncomputable def f_J1_resize_15 (κ : gK) (F : Nat)  (l0 : Option Nat) (l1 : Option Nat) (t0 : Int32) (s : gS) : Option ((Option Nat) × gS) :=
  gB1 (gfI s l0 10 4) fun v1 =>
  if t0 ≤ 0 then
    if v1 ≤ 0 then
      f_J1_resize_85 κ F  l0 l1 t0 (16 : Int32) (12 : Int32) s
    else
      f_J1_resize_85 κ F  l0 l1 t0 v1 (0 : Int32) s
  else
    if t0 < (1073741824 : Int32) then
      if (1073741824 : Int32) ≤ (t0 <<< ((1 : Int32) &&& 31)) then
        f_J1_resize_85 κ F  l0 l1 t0 (t0 <<< ((1 : Int32) &&& 31)) (0 : Int32) s
      else
        if t0 < (16 : Int32) then
          f_J1_resize_85 κ F  l0 l1 t0 (t0 <<< ((1 : Int32) &&& 31)) (0 : Int32) s
        else
          f_J1_resize_85 κ F  l0 l1 t0 (t0 <<< ((1 : Int32) &&& 31)) (v1 <<< ((1 : Int32) &&& 31)) s
    else
      gB1 (gpf κ s l0 10 4 (.int (2147483647 : Int32))) fun s2 =>
      some (l1, s2)
set_option maxHeartbeats 4000000 in
theorem w_J1_resize_15 {E : gE} {F z0 n0 : Nat} {r : (Option Nat)} {s' : gS}   : ∀ (l0 : Option Nat) (l1 : Option Nat) (t0 : Int32) (s : gS), f_J1_resize_15 (gk E) F  l0 l1 t0 s = some (r, s') → W_J1_resize E z0 n0 r s' 15 [(0, vR l0), (1, vR l1)] [vI t0] s := by
  intro l0 l1 t0 s hB
  unfold f_J1_resize_15 at hB
  refine gw_istore_n (L' := [(2, vI t0), (0, vR l0), (1, vR l1)]) (Nat.le_of_ble_eq_true rfl) rfl dJ1_resize_15 ?_
  refine gw_aload_n 1 rfl dJ1_resize_16 ?_
  obtain ⟨v1, hv1, hB⟩ := gB1_some hB
  refine gw_getf (C := RJ2) (T := TJ2) (N := 12) (k := 4) gcl10 (by decide) in_J2 q244 (gfI_spec hv1) dJ1_resize_17 ?_
  refine gw_istore_n (L' := [(3, vI v1), (2, vI t0), (0, vR l0), (1, vR l1)]) (Nat.le_of_ble_eq_true rfl) rfl dJ1_resize_20 ?_
  refine gw_iconst (v := (0 : Int32)) (by decide) dJ1_resize_21 ?_
  refine gw_istore (L' := [(5, vI (0 : Int32)), (3, vI v1), (2, vI t0), (0, vR l0), (1, vR l1)]) (Nat.le_of_ble_eq_true rfl) rfl dJ1_resize_22 ?_
  refine gw_iload_n 2 rfl dJ1_resize_24 ?_
  refine gw_if_le (tgt := 67) dJ1_resize_25 (by decide) (fun hcnd => ?_) (fun hcnd => ?_)
  · rw [if_pos hcnd] at hB
    refine gw_iload_n 1 rfl dJ1_resize_67 ?_
    refine gw_if_le (tgt := 77) dJ1_resize_68 (by decide) (fun hcnd => ?_) (fun hcnd => ?_)
    · rw [if_pos hcnd] at hB
      refine gw_bipush (v := (16 : Int32)) (by decide) dJ1_resize_77 ?_
      refine gw_istore (L' := [(4, vI (16 : Int32)), (5, vI (0 : Int32)), (3, vI v1), (2, vI t0), (0, vR l0), (1, vR l1)]) (Nat.le_of_ble_eq_true rfl) rfl dJ1_resize_79 ?_
      refine gw_bipush (v := (12 : Int32)) (by decide) dJ1_resize_81 ?_
      refine gw_istore (L' := [(5, vI (12 : Int32)), (4, vI (16 : Int32)), (3, vI v1), (2, vI t0), (0, vR l0), (1, vR l1)]) (Nat.le_of_ble_eq_true rfl) rfl dJ1_resize_83 ?_
      exact gw_sub [4, 5, 3, 1, 0] rfl (w_J1_resize_85  _ _ _ _ _ _ hB)
    · rw [if_neg hcnd] at hB
      refine gw_iload_n 1 rfl dJ1_resize_71 ?_
      refine gw_istore (L' := [(4, vI v1), (5, vI (0 : Int32)), (3, vI v1), (2, vI t0), (0, vR l0), (1, vR l1)]) (Nat.le_of_ble_eq_true rfl) rfl dJ1_resize_72 ?_
      refine gw_goto (tgt := 85) dJ1_resize_74 (by decide) ?_
      exact gw_sub [4, 5, 3, 0, 1] rfl (w_J1_resize_85  _ _ _ _ _ _ hB)
  · rw [if_neg hcnd] at hB
    refine gw_iload_n 2 rfl dJ1_resize_28 ?_
    refine gw_ldc (1073741824 : Int32) q764 dJ1_resize_29 ?_
    refine gw_icmp_lt (tgt := 42) dJ1_resize_31 (by decide) (fun hcnd => ?_) (fun hcnd => ?_)
    · rw [if_pos hcnd] at hB
      refine gw_iload_n 2 rfl dJ1_resize_42 ?_
      refine gw_iconst (v := (1 : Int32)) (by decide) dJ1_resize_43 ?_
      refine gw_ishl dJ1_resize_44 ?_
      refine gw_dup rfl dJ1_resize_45 ?_
      refine gw_istore (L' := [(4, vI (t0 <<< ((1 : Int32) &&& 31))), (5, vI (0 : Int32)), (3, vI v1), (2, vI t0), (0, vR l0), (1, vR l1)]) (Nat.le_of_ble_eq_true rfl) rfl dJ1_resize_46 ?_
      refine gw_ldc (1073741824 : Int32) q764 dJ1_resize_48 ?_
      refine gw_icmp_ge (tgt := 85) dJ1_resize_50 (by decide) (fun hcnd => ?_) (fun hcnd => ?_)
      · rw [if_pos hcnd] at hB
        exact gw_sub [4, 5, 3, 0, 1] rfl (w_J1_resize_85  _ _ _ _ _ _ hB)
      · rw [if_neg hcnd] at hB
        refine gw_iload_n 3 rfl dJ1_resize_53 ?_
        refine gw_bipush (v := (16 : Int32)) (by decide) dJ1_resize_54 ?_
        refine gw_icmp_lt (tgt := 85) dJ1_resize_56 (by decide) (fun hcnd => ?_) (fun hcnd => ?_)
        · rw [if_pos hcnd] at hB
          exact gw_sub [4, 5, 3, 0, 1] rfl (w_J1_resize_85  _ _ _ _ _ _ hB)
        · rw [if_neg hcnd] at hB
          refine gw_iload_n 2 rfl dJ1_resize_59 ?_
          refine gw_iconst (v := (1 : Int32)) (by decide) dJ1_resize_60 ?_
          refine gw_ishl dJ1_resize_61 ?_
          refine gw_istore (L' := [(5, vI (v1 <<< ((1 : Int32) &&& 31))), (4, vI (t0 <<< ((1 : Int32) &&& 31))), (3, vI v1), (2, vI t0), (0, vR l0), (1, vR l1)]) (Nat.le_of_ble_eq_true rfl) rfl dJ1_resize_62 ?_
          refine gw_goto (tgt := 85) dJ1_resize_64 (by decide) ?_
          exact gw_sub [4, 5, 3, 1, 0] rfl (w_J1_resize_85  _ _ _ _ _ _ hB)
    · rw [if_neg hcnd] at hB
      refine gw_aload_n 3 rfl dJ1_resize_34 ?_
      refine gw_ldc (2147483647 : Int32) q765 dJ1_resize_35 ?_
      obtain ⟨s2, hs2, hB⟩ := gB1_some hB
      refine gw_putf (C := RJ2) (T := TJ2) (N := 12) (k := 4) tyJ2 tyJ2_ok nmJ2 gcl10 (by decide) in_J2 q244 rfl (tyJ2_ok 4 (by decide)) (gNF_i _) hs2 dJ1_resize_37 ?_
      refine gw_aload_n 4 rfl dJ1_resize_40 ?_
      obtain ⟨rfl, rfl⟩ := Prod.mk.inj (Option.some.inj hB)
      exact gw_aret rfl (Or.inr ⟨_, rfl⟩) rfl rfl dJ1_resize_41
noncomputable def f_J1_resize_0 (κ : gK) (F : Nat)  (l0 : Option Nat) (s : gS) : Option ((Option Nat) × gS) :=
  gB1 (gfR s l0 10 0) fun v1 =>
  if v1 = none then
    f_J1_resize_15 κ F  l0 v1 (0 : Int32) s
  else
    gB1 (gal s v1) fun v2 =>
    f_J1_resize_15 κ F  l0 v1 v2 s
set_option maxHeartbeats 4000000 in
theorem w_J1_resize_0 {E : gE} {F z0 n0 : Nat} {r : (Option Nat)} {s' : gS}   : ∀ (l0 : Option Nat)  (s : gS), f_J1_resize_0 (gk E) F  l0 s = some (r, s') → W_J1_resize E z0 n0 r s' 0 [(0, vR l0)] [] s := by
  intro l0 s hB
  unfold f_J1_resize_0 at hB
  refine gw_aload_n 0 rfl dJ1_resize_0 ?_
  obtain ⟨v1, hv1, hB⟩ := gB1_some hB
  refine gw_getf (C := RJ2) (T := TJ2) (N := 12) (k := 0) gcl10 (by decide) in_J2 q236 (gfR_spec hv1) dJ1_resize_1 ?_
  refine gw_astore_n (L' := [(1, vR v1), (0, vR l0)]) (Nat.le_of_ble_eq_true rfl) rfl dJ1_resize_4 ?_
  refine gw_aload_n 0 rfl dJ1_resize_5 ?_
  refine gw_ifnonnull (tgt := 13) dJ1_resize_6 (by decide) (fun hcnd => ?_) (fun hcnd => ?_)
  · rw [if_neg hcnd] at hB
    refine gw_aload_n 0 rfl dJ1_resize_13 ?_
    obtain ⟨v2, hv2, hB⟩ := gB1_some hB
    refine gw_alen hv2 dJ1_resize_14 ?_
    exact gw_sub [1, 0] rfl (w_J1_resize_15  _ _ _ _ hB)
  · rw [if_pos hcnd] at hB
    refine gw_iconst (v := (0 : Int32)) (by decide) dJ1_resize_9 ?_
    refine gw_goto (tgt := 15) dJ1_resize_10 (by decide) ?_
    exact gw_sub [1, 0] rfl (w_J1_resize_15  _ _ _ _ hB)
noncomputable def f_J1_resize (κ : gK) (F : Nat) (a0 : Option Nat) (s : gS) : Option ((Option Nat) × gS) := f_J1_resize_0 κ F a0 s
theorem m_J1_resize {E : gE} {F : Nat} (a0 : Option Nat) (s : gS) (r : (Option Nat)) (s' : gS) (h : f_J1_resize (gk E) F a0 s = some (r, s')) : gCT E 1 yJ1_resize (ws_ yJ1_resize cJ1_resize 14 (some (FieldType.array (FieldType.object "java/util/HashMap$Node")))) [vR a0] s (.inl (some (vR r))) s' := by
  refine gCT_of2 (fun h => absurd h (by decide)) (plainFor_of_name (by decide)) (Nat.le_of_ble_eq_true rfl) ?_
  exact gw_sub [0] rfl (w_J1_resize_0 _ _ h)
def dkwJ18_init_1 : List UInt8 := [181, 0, 20, 177]
abbrev dktJ18_init_1 : List UInt8 := dkwJ18_init_1 ++ []
def dkwJ18_init_0 : List UInt8 := [42, 183, 0, 1, 42, 27, 181, 0, 7, 42, 44, 181, 0, 13, 42, 45, 181, 0, 17, 42, 25, 4]
abbrev dktJ18_init_0 : List UInt8 := dkwJ18_init_0 ++ dktJ18_init_1
theorem dksJ18_init_0 : cJ18_init.data.toList.drop 0 = dktJ18_init_0 := by decide +kernel
theorem dksJ18_init_1 : cJ18_init.data.toList.drop 22 = dktJ18_init_1 := dk_seg dksJ18_init_0 22 rfl rfl
theorem dJ18_init_0 : decode cJ18_init 0 = .ok (.aload_n 0, 1) := dk_42 (dk_at dksJ18_init_0 0 rfl rfl)
theorem dJ18_init_1 : decode cJ18_init 1 = .ok (.invokespecial 1, 3) := dk_183 0 1 (dk_at dksJ18_init_0 1 rfl rfl)
theorem dJ18_init_4 : decode cJ18_init 4 = .ok (.aload_n 0, 1) := dk_42 (dk_at dksJ18_init_0 4 rfl rfl)
theorem dJ18_init_5 : decode cJ18_init 5 = .ok (.iload_n 1, 1) := dk_27 (dk_at dksJ18_init_0 5 rfl rfl)
theorem dJ18_init_6 : decode cJ18_init 6 = .ok (.putfield 7, 3) := dk_181 0 7 (dk_at dksJ18_init_0 6 rfl rfl)
theorem dJ18_init_9 : decode cJ18_init 9 = .ok (.aload_n 0, 1) := dk_42 (dk_at dksJ18_init_0 9 rfl rfl)
theorem dJ18_init_10 : decode cJ18_init 10 = .ok (.aload_n 2, 1) := dk_44 (dk_at dksJ18_init_0 10 rfl rfl)
theorem dJ18_init_11 : decode cJ18_init 11 = .ok (.putfield 13, 3) := dk_181 0 13 (dk_at dksJ18_init_0 11 rfl rfl)
theorem dJ18_init_14 : decode cJ18_init 14 = .ok (.aload_n 0, 1) := dk_42 (dk_at dksJ18_init_0 14 rfl rfl)
theorem dJ18_init_15 : decode cJ18_init 15 = .ok (.aload_n 3, 1) := dk_45 (dk_at dksJ18_init_0 15 rfl rfl)
theorem dJ18_init_16 : decode cJ18_init 16 = .ok (.putfield 17, 3) := dk_181 0 17 (dk_at dksJ18_init_0 16 rfl rfl)
theorem dJ18_init_19 : decode cJ18_init 19 = .ok (.aload_n 0, 1) := dk_42 (dk_at dksJ18_init_0 19 rfl rfl)
theorem dJ18_init_20 : decode cJ18_init 20 = .ok (.aload 4, 2) := dk_25 4 (dk_at dksJ18_init_0 20 rfl rfl)
theorem dJ18_init_22 : decode cJ18_init 22 = .ok (.putfield 20, 3) := dk_181 0 20 (dk_at dksJ18_init_1 0 rfl rfl)
theorem dJ18_init_25 : decode cJ18_init 25 = .ok (.return_, 1) := dk_177 (dk_at dksJ18_init_1 3 rfl rfl)
/-! java/util/HashMap$Node.<init>(ILjava/lang/Object;Ljava/lang/Object;Ljava/util/HashMap$Node;)V -/
abbrev M_J18_init (z0 n0 : Nat) (s' : gS) : gM := (RJ18, cJ18_init, 5, none, "<init>", [], 1, z0, n0, s'.2.1, s'.2.2)
abbrev W_J18_init (E : gE) (z0 n0 : Nat) (r : Unit) (s' : gS) (pc : Nat) (L : List (Nat × gV)) (st : List gV) (s : gS) : Prop := gW E (M_J18_init z0 n0 s') (gQm E (M_J18_init z0 n0 s') (.inl none) s') pc L st s
noncomputable def f_J18_init_0 (κ : gK) (F : Nat)  (l0 : Option Nat) (l1 : Int32) (l2 : Option Nat) (l3 : Option Nat) (l4 : Option Nat) (s : gS) : Option (Unit × gS) :=
  gB1 (gsm l0) fun _ =>
  gB1 (gpf κ s l0 11 0 (.int l1)) fun s2 =>
  gB1 (gpf κ s2 l0 11 1 (va_rf l2)) fun s3 =>
  gB1 (gpf κ s3 l0 11 2 (va_rf l3)) fun s4 =>
  gB1 (gpf κ s4 l0 11 3 (va_rf l4)) fun s5 =>
  some ((), s5)
set_option maxHeartbeats 4000000 in
theorem w_J18_init_0 {E : gE} {F z0 n0 : Nat} {r : Unit} {s' : gS}   : ∀ (l0 : Option Nat) (l1 : Int32) (l2 : Option Nat) (l3 : Option Nat) (l4 : Option Nat)  (s : gS), f_J18_init_0 (gk E) F  l0 l1 l2 l3 l4 s = some (r, s') → W_J18_init E z0 n0 r s' 0 [(0, vR l0), (1, vI l1), (2, vR l2), (3, vR l3), (4, vR l4)] [] s := by
  intro l0 l1 l2 l3 l4 s hB
  unfold f_J18_init_0 at hB
  refine gw_aload_n 0 rfl dJ18_init_0 ?_
  obtain ⟨u0, hu1, hB⟩ := gB1_some hB
  refine gw_objInit (gsm_spec hu1) q793 q172 q173 (Nat.le_of_ble_eq_true rfl) (Nat.le_of_ble_eq_true rfl) dJ18_init_1 ?_
  refine gw_aload_n 0 rfl dJ18_init_4 ?_
  refine gw_iload_n 1 rfl dJ18_init_5 ?_
  obtain ⟨s2, hs2, hB⟩ := gB1_some hB
  refine gw_putfF (C := RJ19) (T := TJ19) (N := 6) (k := 0) tyJ19 tyJ19_ok nmJ19 gcl11 (by decide) in_J19 q798 rfl rfl rfl (tyJ19_ok 0 (by decide)) (gNF_i _) hs2 dJ18_init_6 ?_
  refine gw_aload_n 0 rfl dJ18_init_9 ?_
  refine gw_aload_n 2 rfl dJ18_init_10 ?_
  obtain ⟨s3, hs3, hB⟩ := gB1_some hB
  refine gw_putfF (C := RJ19) (T := TJ19) (N := 6) (k := 1) tyJ19 tyJ19_ok nmJ19 gcl11 (by decide) in_J19 q804 rfl rfl rfl (tyJ19_ok 1 (by decide)) (gNF_o _ _) hs3 dJ18_init_11 ?_
  refine gw_aload_n 0 rfl dJ18_init_14 ?_
  refine gw_aload_n 3 rfl dJ18_init_15 ?_
  obtain ⟨s4, hs4, hB⟩ := gB1_some hB
  refine gw_putf (C := RJ19) (T := TJ19) (N := 6) (k := 2) tyJ19 tyJ19_ok nmJ19 gcl11 (by decide) in_J19 q811 rfl (tyJ19_ok 2 (by decide)) (gNF_o _ _) hs4 dJ18_init_16 ?_
  refine gw_aload_n 0 rfl dJ18_init_19 ?_
  refine gw_aload 4 rfl dJ18_init_20 ?_
  obtain ⟨s5, hs5, hB⟩ := gB1_some hB
  refine gw_putf (C := RJ19) (T := TJ19) (N := 6) (k := 3) tyJ19 tyJ19_ok nmJ19 gcl11 (by decide) in_J19 q816 rfl (tyJ19_ok 3 (by decide)) (gNF_o _ _) hs5 dJ18_init_22 ?_
  obtain ⟨rfl, rfl⟩ := Prod.mk.inj (Option.some.inj hB)
  exact gw_vret rfl rfl rfl dJ18_init_25
noncomputable def f_J18_init (κ : gK) (F : Nat) (a0 : Option Nat) (a1 : Int32) (a2 : Option Nat) (a3 : Option Nat) (a4 : Option Nat) (s : gS) : Option (Unit × gS) := f_J18_init_0 κ F a0 a1 a2 a3 a4 s
theorem m_J18_init {E : gE} {F : Nat} (a0 : Option Nat) (a1 : Int32) (a2 : Option Nat) (a3 : Option Nat) (a4 : Option Nat) (s : gS) (r : Unit) (s' : gS) (h : f_J18_init (gk E) F a0 a1 a2 a3 a4 s = some (r, s')) : gCT E 1 yJ18_init (ws_ yJ18_init cJ18_init 5 none) [vR a0, vI a1, vR a2, vR a3, vR a4] s (.inl none) s' := by
  refine gCT_of2 (fun h => absurd h (by decide)) (plainFor_of_name (by decide)) (Nat.le_of_ble_eq_true rfl) ?_
  exact gw_sub [0, 1, 2, 3, 4] rfl (w_J18_init_0 _ _ _ _ _ _ h)
def dkwJ19_init_0 : List UInt8 := [42, 27, 44, 45, 25, 4, 183, 0, 1, 177]
abbrev dktJ19_init_0 : List UInt8 := dkwJ19_init_0 ++ []
theorem dksJ19_init_0 : cJ19_init.data.toList.drop 0 = dktJ19_init_0 := by decide +kernel
theorem dJ19_init_0 : decode cJ19_init 0 = .ok (.aload_n 0, 1) := dk_42 (dk_at dksJ19_init_0 0 rfl rfl)
theorem dJ19_init_1 : decode cJ19_init 1 = .ok (.iload_n 1, 1) := dk_27 (dk_at dksJ19_init_0 1 rfl rfl)
theorem dJ19_init_2 : decode cJ19_init 2 = .ok (.aload_n 2, 1) := dk_44 (dk_at dksJ19_init_0 2 rfl rfl)
theorem dJ19_init_3 : decode cJ19_init 3 = .ok (.aload_n 3, 1) := dk_45 (dk_at dksJ19_init_0 3 rfl rfl)
theorem dJ19_init_4 : decode cJ19_init 4 = .ok (.aload 4, 2) := dk_25 4 (dk_at dksJ19_init_0 4 rfl rfl)
theorem dJ19_init_6 : decode cJ19_init 6 = .ok (.invokespecial 1, 3) := dk_183 0 1 (dk_at dksJ19_init_0 6 rfl rfl)
theorem dJ19_init_9 : decode cJ19_init 9 = .ok (.return_, 1) := dk_177 (dk_at dksJ19_init_0 9 rfl rfl)
/-! java/util/LinkedHashMap$Entry.<init>(ILjava/lang/Object;Ljava/lang/Object;Ljava/util/HashMap$Node;)V -/
abbrev M_J19_init (z0 n0 : Nat) (s' : gS) : gM := (RJ19, cJ19_init, 5, none, "<init>", [], 2, z0, n0, s'.2.1, s'.2.2)
abbrev W_J19_init (E : gE) (z0 n0 : Nat) (r : Unit) (s' : gS) (pc : Nat) (L : List (Nat × gV)) (st : List gV) (s : gS) : Prop := gW E (M_J19_init z0 n0 s') (gQm E (M_J19_init z0 n0 s') (.inl none) s') pc L st s
noncomputable def f_J19_init_0 (κ : gK) (F : Nat)  (l0 : Option Nat) (l1 : Int32) (l2 : Option Nat) (l3 : Option Nat) (l4 : Option Nat) (s : gS) : Option (Unit × gS) :=
  gB1 (gsm l0) fun _ =>
  gB2 (f_J18_init κ F l0 l1 l2 l3 l4 s) fun v2 s1 =>
  some ((), s1)
set_option maxHeartbeats 4000000 in
theorem w_J19_init_0 {E : gE} {F z0 n0 : Nat} {r : Unit} {s' : gS}   : ∀ (l0 : Option Nat) (l1 : Int32) (l2 : Option Nat) (l3 : Option Nat) (l4 : Option Nat)  (s : gS), f_J19_init_0 (gk E) F  l0 l1 l2 l3 l4 s = some (r, s') → W_J19_init E z0 n0 r s' 0 [(0, vR l0), (1, vI l1), (2, vR l2), (3, vR l3), (4, vR l4)] [] s := by
  intro l0 l1 l2 l3 l4 s hB
  unfold f_J19_init_0 at hB
  refine gw_aload_n 0 rfl dJ19_init_0 ?_
  refine gw_iload_n 1 rfl dJ19_init_1 ?_
  refine gw_aload_n 2 rfl dJ19_init_2 ?_
  refine gw_aload_n 3 rfl dJ19_init_3 ?_
  refine gw_aload 4 rfl dJ19_init_4 ?_
  obtain ⟨u0, hu3, hB⟩ := gB1_some hB
  obtain ⟨v2, s1, hv2, hB⟩ := gB2_some hB
  refine gw_callI (y := yJ18_init) (lw_meth q792) q134 q790 q791 rfl hdS_J18_init (gsm_spec hu3) (As := [vI l1, vR l2, vR l3, vR l4]) (rest := []) (m_J18_init _ _ _ _ _ _ _ _ hv2) (Nat.le_of_ble_eq_true rfl) (Nat.le_of_ble_eq_true rfl) rfl (Nat.le_of_ble_eq_true rfl) dJ19_init_6 (gCont_v ?_)
  obtain ⟨rfl, rfl⟩ := Prod.mk.inj (Option.some.inj hB)
  exact gw_vret rfl rfl rfl dJ19_init_9
noncomputable def f_J19_init (κ : gK) (F : Nat) (a0 : Option Nat) (a1 : Int32) (a2 : Option Nat) (a3 : Option Nat) (a4 : Option Nat) (s : gS) : Option (Unit × gS) := f_J19_init_0 κ F a0 a1 a2 a3 a4 s
theorem m_J19_init {E : gE} {F : Nat} (a0 : Option Nat) (a1 : Int32) (a2 : Option Nat) (a3 : Option Nat) (a4 : Option Nat) (s : gS) (r : Unit) (s' : gS) (h : f_J19_init (gk E) F a0 a1 a2 a3 a4 s = some (r, s')) : gCT E 2 yJ19_init (ws_ yJ19_init cJ19_init 5 none) [vR a0, vI a1, vR a2, vR a3, vR a4] s (.inl none) s' := by
  refine gCT_of2 (fun h => absurd h (by decide)) (plainFor_of_name (by decide)) (Nat.le_of_ble_eq_true rfl) ?_
  exact gw_sub [0, 1, 2, 3, 4] rfl (w_J19_init_0 _ _ _ _ _ _ h)
def dkwJ2_linkNodeAtEnd_3 : List UInt8 := [181, 0, 14, 177]
abbrev dktJ2_linkNodeAtEnd_3 : List UInt8 := dkwJ2_linkNodeAtEnd_3 ++ []
def dkwJ2_linkNodeAtEnd_2 : List UInt8 := [42, 43, 181, 0, 11, 44, 199, 0, 11, 42, 43, 181, 0, 7, 167, 0, 13, 43, 44, 181, 0, 19, 44, 43]
abbrev dktJ2_linkNodeAtEnd_2 : List UInt8 := dkwJ2_linkNodeAtEnd_2 ++ dktJ2_linkNodeAtEnd_3
def dkwJ2_linkNodeAtEnd_1 : List UInt8 := [181, 0, 11, 167, 0, 13, 43, 44, 181, 0, 14, 44, 43, 181, 0, 19, 167, 0, 35, 42, 180, 0, 11, 77]
abbrev dktJ2_linkNodeAtEnd_1 : List UInt8 := dkwJ2_linkNodeAtEnd_1 ++ dktJ2_linkNodeAtEnd_2
def dkwJ2_linkNodeAtEnd_0 : List UInt8 := [42, 180, 0, 1, 4, 160, 0, 38, 42, 180, 0, 7, 77, 42, 43, 181, 0, 7, 44, 199, 0, 11, 42, 43]
abbrev dktJ2_linkNodeAtEnd_0 : List UInt8 := dkwJ2_linkNodeAtEnd_0 ++ dktJ2_linkNodeAtEnd_1
theorem dksJ2_linkNodeAtEnd_0 : cJ2_linkNodeAtEnd.data.toList.drop 0 = dktJ2_linkNodeAtEnd_0 := by decide +kernel
theorem dksJ2_linkNodeAtEnd_1 : cJ2_linkNodeAtEnd.data.toList.drop 24 = dktJ2_linkNodeAtEnd_1 := dk_seg dksJ2_linkNodeAtEnd_0 24 rfl rfl
theorem dksJ2_linkNodeAtEnd_2 : cJ2_linkNodeAtEnd.data.toList.drop 48 = dktJ2_linkNodeAtEnd_2 := dk_seg dksJ2_linkNodeAtEnd_1 24 rfl rfl
theorem dksJ2_linkNodeAtEnd_3 : cJ2_linkNodeAtEnd.data.toList.drop 72 = dktJ2_linkNodeAtEnd_3 := dk_seg dksJ2_linkNodeAtEnd_2 24 rfl rfl
theorem dJ2_linkNodeAtEnd_0 : decode cJ2_linkNodeAtEnd 0 = .ok (.aload_n 0, 1) := dk_42 (dk_at dksJ2_linkNodeAtEnd_0 0 rfl rfl)
theorem dJ2_linkNodeAtEnd_1 : decode cJ2_linkNodeAtEnd 1 = .ok (.getfield 1, 3) := dk_180 0 1 (dk_at dksJ2_linkNodeAtEnd_0 1 rfl rfl)
theorem dJ2_linkNodeAtEnd_4 : decode cJ2_linkNodeAtEnd 4 = .ok (.iconst 1, 1) := dk_4 (dk_at dksJ2_linkNodeAtEnd_0 4 rfl rfl)
theorem dJ2_linkNodeAtEnd_5 : decode cJ2_linkNodeAtEnd 5 = .ok (.if_icmp .ne 38, 3) := dk_160 0 38 (dk_at dksJ2_linkNodeAtEnd_0 5 rfl rfl)
theorem dJ2_linkNodeAtEnd_8 : decode cJ2_linkNodeAtEnd 8 = .ok (.aload_n 0, 1) := dk_42 (dk_at dksJ2_linkNodeAtEnd_0 8 rfl rfl)
theorem dJ2_linkNodeAtEnd_9 : decode cJ2_linkNodeAtEnd 9 = .ok (.getfield 7, 3) := dk_180 0 7 (dk_at dksJ2_linkNodeAtEnd_0 9 rfl rfl)
theorem dJ2_linkNodeAtEnd_12 : decode cJ2_linkNodeAtEnd 12 = .ok (.astore_n 2, 1) := dk_77 (dk_at dksJ2_linkNodeAtEnd_0 12 rfl rfl)
theorem dJ2_linkNodeAtEnd_13 : decode cJ2_linkNodeAtEnd 13 = .ok (.aload_n 0, 1) := dk_42 (dk_at dksJ2_linkNodeAtEnd_0 13 rfl rfl)
theorem dJ2_linkNodeAtEnd_14 : decode cJ2_linkNodeAtEnd 14 = .ok (.aload_n 1, 1) := dk_43 (dk_at dksJ2_linkNodeAtEnd_0 14 rfl rfl)
theorem dJ2_linkNodeAtEnd_15 : decode cJ2_linkNodeAtEnd 15 = .ok (.putfield 7, 3) := dk_181 0 7 (dk_at dksJ2_linkNodeAtEnd_0 15 rfl rfl)
theorem dJ2_linkNodeAtEnd_18 : decode cJ2_linkNodeAtEnd 18 = .ok (.aload_n 2, 1) := dk_44 (dk_at dksJ2_linkNodeAtEnd_0 18 rfl rfl)
theorem dJ2_linkNodeAtEnd_19 : decode cJ2_linkNodeAtEnd 19 = .ok (.ifnonnull 11, 3) := dk_199 0 11 (dk_at dksJ2_linkNodeAtEnd_0 19 rfl rfl)
theorem dJ2_linkNodeAtEnd_22 : decode cJ2_linkNodeAtEnd 22 = .ok (.aload_n 0, 1) := dk_42 (dk_at dksJ2_linkNodeAtEnd_0 22 rfl rfl)
theorem dJ2_linkNodeAtEnd_23 : decode cJ2_linkNodeAtEnd 23 = .ok (.aload_n 1, 1) := dk_43 (dk_at dksJ2_linkNodeAtEnd_0 23 rfl rfl)
theorem dJ2_linkNodeAtEnd_24 : decode cJ2_linkNodeAtEnd 24 = .ok (.putfield 11, 3) := dk_181 0 11 (dk_at dksJ2_linkNodeAtEnd_1 0 rfl rfl)
theorem dJ2_linkNodeAtEnd_27 : decode cJ2_linkNodeAtEnd 27 = .ok (.goto 13, 3) := dk_167 0 13 (dk_at dksJ2_linkNodeAtEnd_1 3 rfl rfl)
theorem dJ2_linkNodeAtEnd_30 : decode cJ2_linkNodeAtEnd 30 = .ok (.aload_n 1, 1) := dk_43 (dk_at dksJ2_linkNodeAtEnd_1 6 rfl rfl)
theorem dJ2_linkNodeAtEnd_31 : decode cJ2_linkNodeAtEnd 31 = .ok (.aload_n 2, 1) := dk_44 (dk_at dksJ2_linkNodeAtEnd_1 7 rfl rfl)
theorem dJ2_linkNodeAtEnd_32 : decode cJ2_linkNodeAtEnd 32 = .ok (.putfield 14, 3) := dk_181 0 14 (dk_at dksJ2_linkNodeAtEnd_1 8 rfl rfl)
theorem dJ2_linkNodeAtEnd_35 : decode cJ2_linkNodeAtEnd 35 = .ok (.aload_n 2, 1) := dk_44 (dk_at dksJ2_linkNodeAtEnd_1 11 rfl rfl)
theorem dJ2_linkNodeAtEnd_36 : decode cJ2_linkNodeAtEnd 36 = .ok (.aload_n 1, 1) := dk_43 (dk_at dksJ2_linkNodeAtEnd_1 12 rfl rfl)
theorem dJ2_linkNodeAtEnd_37 : decode cJ2_linkNodeAtEnd 37 = .ok (.putfield 19, 3) := dk_181 0 19 (dk_at dksJ2_linkNodeAtEnd_1 13 rfl rfl)
theorem dJ2_linkNodeAtEnd_40 : decode cJ2_linkNodeAtEnd 40 = .ok (.goto 35, 3) := dk_167 0 35 (dk_at dksJ2_linkNodeAtEnd_1 16 rfl rfl)
theorem dJ2_linkNodeAtEnd_43 : decode cJ2_linkNodeAtEnd 43 = .ok (.aload_n 0, 1) := dk_42 (dk_at dksJ2_linkNodeAtEnd_1 19 rfl rfl)
theorem dJ2_linkNodeAtEnd_44 : decode cJ2_linkNodeAtEnd 44 = .ok (.getfield 11, 3) := dk_180 0 11 (dk_at dksJ2_linkNodeAtEnd_1 20 rfl rfl)
theorem dJ2_linkNodeAtEnd_47 : decode cJ2_linkNodeAtEnd 47 = .ok (.astore_n 2, 1) := dk_77 (dk_at dksJ2_linkNodeAtEnd_1 23 rfl rfl)
theorem dJ2_linkNodeAtEnd_48 : decode cJ2_linkNodeAtEnd 48 = .ok (.aload_n 0, 1) := dk_42 (dk_at dksJ2_linkNodeAtEnd_2 0 rfl rfl)
theorem dJ2_linkNodeAtEnd_49 : decode cJ2_linkNodeAtEnd 49 = .ok (.aload_n 1, 1) := dk_43 (dk_at dksJ2_linkNodeAtEnd_2 1 rfl rfl)
theorem dJ2_linkNodeAtEnd_50 : decode cJ2_linkNodeAtEnd 50 = .ok (.putfield 11, 3) := dk_181 0 11 (dk_at dksJ2_linkNodeAtEnd_2 2 rfl rfl)
theorem dJ2_linkNodeAtEnd_53 : decode cJ2_linkNodeAtEnd 53 = .ok (.aload_n 2, 1) := dk_44 (dk_at dksJ2_linkNodeAtEnd_2 5 rfl rfl)
theorem dJ2_linkNodeAtEnd_54 : decode cJ2_linkNodeAtEnd 54 = .ok (.ifnonnull 11, 3) := dk_199 0 11 (dk_at dksJ2_linkNodeAtEnd_2 6 rfl rfl)
theorem dJ2_linkNodeAtEnd_57 : decode cJ2_linkNodeAtEnd 57 = .ok (.aload_n 0, 1) := dk_42 (dk_at dksJ2_linkNodeAtEnd_2 9 rfl rfl)
theorem dJ2_linkNodeAtEnd_58 : decode cJ2_linkNodeAtEnd 58 = .ok (.aload_n 1, 1) := dk_43 (dk_at dksJ2_linkNodeAtEnd_2 10 rfl rfl)
theorem dJ2_linkNodeAtEnd_59 : decode cJ2_linkNodeAtEnd 59 = .ok (.putfield 7, 3) := dk_181 0 7 (dk_at dksJ2_linkNodeAtEnd_2 11 rfl rfl)
theorem dJ2_linkNodeAtEnd_62 : decode cJ2_linkNodeAtEnd 62 = .ok (.goto 13, 3) := dk_167 0 13 (dk_at dksJ2_linkNodeAtEnd_2 14 rfl rfl)
theorem dJ2_linkNodeAtEnd_65 : decode cJ2_linkNodeAtEnd 65 = .ok (.aload_n 1, 1) := dk_43 (dk_at dksJ2_linkNodeAtEnd_2 17 rfl rfl)
theorem dJ2_linkNodeAtEnd_66 : decode cJ2_linkNodeAtEnd 66 = .ok (.aload_n 2, 1) := dk_44 (dk_at dksJ2_linkNodeAtEnd_2 18 rfl rfl)
theorem dJ2_linkNodeAtEnd_67 : decode cJ2_linkNodeAtEnd 67 = .ok (.putfield 19, 3) := dk_181 0 19 (dk_at dksJ2_linkNodeAtEnd_2 19 rfl rfl)
theorem dJ2_linkNodeAtEnd_70 : decode cJ2_linkNodeAtEnd 70 = .ok (.aload_n 2, 1) := dk_44 (dk_at dksJ2_linkNodeAtEnd_2 22 rfl rfl)
theorem dJ2_linkNodeAtEnd_71 : decode cJ2_linkNodeAtEnd 71 = .ok (.aload_n 1, 1) := dk_43 (dk_at dksJ2_linkNodeAtEnd_2 23 rfl rfl)
theorem dJ2_linkNodeAtEnd_72 : decode cJ2_linkNodeAtEnd 72 = .ok (.putfield 14, 3) := dk_181 0 14 (dk_at dksJ2_linkNodeAtEnd_3 0 rfl rfl)
theorem dJ2_linkNodeAtEnd_75 : decode cJ2_linkNodeAtEnd 75 = .ok (.return_, 1) := dk_177 (dk_at dksJ2_linkNodeAtEnd_3 3 rfl rfl)
/-! java/util/LinkedHashMap.linkNodeAtEnd(Ljava/util/LinkedHashMap$Entry;)V -/
abbrev M_J2_linkNodeAtEnd (z0 n0 : Nat) (s' : gS) : gM := (RJ2, cJ2_linkNodeAtEnd, 3, none, "linkNodeAtEnd", [], 1, z0, n0, s'.2.1, s'.2.2)
abbrev W_J2_linkNodeAtEnd (E : gE) (z0 n0 : Nat) (r : Unit) (s' : gS) (pc : Nat) (L : List (Nat × gV)) (st : List gV) (s : gS) : Prop := gW E (M_J2_linkNodeAtEnd z0 n0 s') (gQm E (M_J2_linkNodeAtEnd z0 n0 s') (.inl none) s') pc L st s
noncomputable def f_J2_linkNodeAtEnd_75 (κ : gK) (F : Nat)   (s : gS) : Option (Unit × gS) :=
  some ((), s)
set_option maxHeartbeats 4000000 in
theorem w_J2_linkNodeAtEnd_75 {E : gE} {F z0 n0 : Nat} {r : Unit} {s' : gS}   : ∀   (s : gS), f_J2_linkNodeAtEnd_75 (gk E) F   s = some (r, s') → W_J2_linkNodeAtEnd E z0 n0 r s' 75 [] [] s := by
  intro  s hB
  unfold f_J2_linkNodeAtEnd_75 at hB
  obtain ⟨rfl, rfl⟩ := Prod.mk.inj (Option.some.inj hB)
  exact gw_vret rfl rfl rfl dJ2_linkNodeAtEnd_75
noncomputable def f_J2_linkNodeAtEnd_40 (κ : gK) (F : Nat)   (s : gS) : Option (Unit × gS) :=
  f_J2_linkNodeAtEnd_75 κ F  s
set_option maxHeartbeats 4000000 in
theorem w_J2_linkNodeAtEnd_40 {E : gE} {F z0 n0 : Nat} {r : Unit} {s' : gS}   : ∀   (s : gS), f_J2_linkNodeAtEnd_40 (gk E) F   s = some (r, s') → W_J2_linkNodeAtEnd E z0 n0 r s' 40 [] [] s := by
  intro  s hB
  unfold f_J2_linkNodeAtEnd_40 at hB
  refine gw_goto (tgt := 75) dJ2_linkNodeAtEnd_40 (by decide) ?_
  exact gw_sub [] rfl (w_J2_linkNodeAtEnd_75   _ hB)
noncomputable def f_J2_linkNodeAtEnd_0 (κ : gK) (F : Nat)  (l0 : Option Nat) (l1 : Option Nat) (s : gS) : Option (Unit × gS) :=
  gB1 (gfI s l0 10 11) fun v1 =>
  if v1 = (1 : Int32) then
    gB1 (gfR s l0 10 8) fun v7 =>
    gB1 (gpf κ s l0 10 8 (va_rf l1)) fun s8 =>
    if v7 = none then
      gB1 (gpf κ s8 l0 10 9 (va_rf l1)) fun s11 =>
      f_J2_linkNodeAtEnd_40 κ F  s11
    else
      gB1 (gpf κ s8 l1 11 5 (va_rf v7)) fun s9 =>
      gB1 (gpf κ s9 v7 11 4 (va_rf l1)) fun s10 =>
      f_J2_linkNodeAtEnd_40 κ F  s10
  else
    gB1 (gfR s l0 10 9) fun v2 =>
    gB1 (gpf κ s l0 10 9 (va_rf l1)) fun s3 =>
    if v2 = none then
      gB1 (gpf κ s3 l0 10 8 (va_rf l1)) fun s6 =>
      f_J2_linkNodeAtEnd_75 κ F  s6
    else
      gB1 (gpf κ s3 l1 11 4 (va_rf v2)) fun s4 =>
      gB1 (gpf κ s4 v2 11 5 (va_rf l1)) fun s5 =>
      f_J2_linkNodeAtEnd_75 κ F  s5
set_option maxHeartbeats 4000000 in
theorem w_J2_linkNodeAtEnd_0 {E : gE} {F z0 n0 : Nat} {r : Unit} {s' : gS}   : ∀ (l0 : Option Nat) (l1 : Option Nat)  (s : gS), f_J2_linkNodeAtEnd_0 (gk E) F  l0 l1 s = some (r, s') → W_J2_linkNodeAtEnd E z0 n0 r s' 0 [(0, vR l0), (1, vR l1)] [] s := by
  intro l0 l1 s hB
  unfold f_J2_linkNodeAtEnd_0 at hB
  refine gw_aload_n 0 rfl dJ2_linkNodeAtEnd_0 ?_
  obtain ⟨v1, hv1, hB⟩ := gB1_some hB
  refine gw_getf (C := RJ2) (T := TJ2) (N := 12) (k := 11) gcl10 (by decide) in_J2 q234 (gfI_spec hv1) dJ2_linkNodeAtEnd_1 ?_
  refine gw_iconst (v := (1 : Int32)) (by decide) dJ2_linkNodeAtEnd_4 ?_
  refine gw_icmp_ne (tgt := 43) dJ2_linkNodeAtEnd_5 (by decide) (fun hcnd => ?_) (fun hcnd => ?_)
  · rw [if_neg hcnd] at hB
    refine gw_aload_n 0 rfl dJ2_linkNodeAtEnd_43 ?_
    obtain ⟨v2, hv2, hB⟩ := gB1_some hB
    refine gw_getf (C := RJ2) (T := TJ2) (N := 12) (k := 9) gcl10 (by decide) in_J2 q232 (gfR_spec hv2) dJ2_linkNodeAtEnd_44 ?_
    refine gw_astore_n (L' := [(2, vR v2), (0, vR l0), (1, vR l1)]) (Nat.le_of_ble_eq_true rfl) rfl dJ2_linkNodeAtEnd_47 ?_
    refine gw_aload_n 1 rfl dJ2_linkNodeAtEnd_48 ?_
    refine gw_aload_n 2 rfl dJ2_linkNodeAtEnd_49 ?_
    obtain ⟨s3, hs3, hB⟩ := gB1_some hB
    refine gw_putf (C := RJ2) (T := TJ2) (N := 12) (k := 9) tyJ2 tyJ2_ok nmJ2 gcl10 (by decide) in_J2 q232 rfl (tyJ2_ok 9 (by decide)) (gNF_o _ _) hs3 dJ2_linkNodeAtEnd_50 ?_
    refine gw_aload_n 0 rfl dJ2_linkNodeAtEnd_53 ?_
    refine gw_ifnonnull (tgt := 65) dJ2_linkNodeAtEnd_54 (by decide) (fun hcnd => ?_) (fun hcnd => ?_)
    · rw [if_neg hcnd] at hB
      refine gw_aload_n 2 rfl dJ2_linkNodeAtEnd_65 ?_
      refine gw_aload_n 0 rfl dJ2_linkNodeAtEnd_66 ?_
      obtain ⟨s4, hs4, hB⟩ := gB1_some hB
      refine gw_putf (C := RJ19) (T := TJ19) (N := 6) (k := 4) tyJ19 tyJ19_ok nmJ19 gcl11 (by decide) in_J19 q794 rfl (tyJ19_ok 4 (by decide)) (gNF_o _ _) hs4 dJ2_linkNodeAtEnd_67 ?_
      refine gw_aload_n 0 rfl dJ2_linkNodeAtEnd_70 ?_
      refine gw_aload_n 2 rfl dJ2_linkNodeAtEnd_71 ?_
      obtain ⟨s5, hs5, hB⟩ := gB1_some hB
      refine gw_putf (C := RJ19) (T := TJ19) (N := 6) (k := 5) tyJ19 tyJ19_ok nmJ19 gcl11 (by decide) in_J19 q796 rfl (tyJ19_ok 5 (by decide)) (gNF_o _ _) hs5 dJ2_linkNodeAtEnd_72 ?_
      exact gw_sub [] rfl (w_J2_linkNodeAtEnd_75   _ hB)
    · rw [if_pos hcnd] at hB
      refine gw_aload_n 1 rfl dJ2_linkNodeAtEnd_57 ?_
      refine gw_aload_n 2 rfl dJ2_linkNodeAtEnd_58 ?_
      obtain ⟨s6, hs6, hB⟩ := gB1_some hB
      refine gw_putf (C := RJ2) (T := TJ2) (N := 12) (k := 8) tyJ2 tyJ2_ok nmJ2 gcl10 (by decide) in_J2 q229 rfl (tyJ2_ok 8 (by decide)) (gNF_o _ _) hs6 dJ2_linkNodeAtEnd_59 ?_
      refine gw_goto (tgt := 75) dJ2_linkNodeAtEnd_62 (by decide) ?_
      exact gw_sub [] rfl (w_J2_linkNodeAtEnd_75   _ hB)
  · rw [if_pos hcnd] at hB
    refine gw_aload_n 0 rfl dJ2_linkNodeAtEnd_8 ?_
    obtain ⟨v7, hv7, hB⟩ := gB1_some hB
    refine gw_getf (C := RJ2) (T := TJ2) (N := 12) (k := 8) gcl10 (by decide) in_J2 q229 (gfR_spec hv7) dJ2_linkNodeAtEnd_9 ?_
    refine gw_astore_n (L' := [(2, vR v7), (0, vR l0), (1, vR l1)]) (Nat.le_of_ble_eq_true rfl) rfl dJ2_linkNodeAtEnd_12 ?_
    refine gw_aload_n 1 rfl dJ2_linkNodeAtEnd_13 ?_
    refine gw_aload_n 2 rfl dJ2_linkNodeAtEnd_14 ?_
    obtain ⟨s8, hs8, hB⟩ := gB1_some hB
    refine gw_putf (C := RJ2) (T := TJ2) (N := 12) (k := 8) tyJ2 tyJ2_ok nmJ2 gcl10 (by decide) in_J2 q229 rfl (tyJ2_ok 8 (by decide)) (gNF_o _ _) hs8 dJ2_linkNodeAtEnd_15 ?_
    refine gw_aload_n 0 rfl dJ2_linkNodeAtEnd_18 ?_
    refine gw_ifnonnull (tgt := 30) dJ2_linkNodeAtEnd_19 (by decide) (fun hcnd => ?_) (fun hcnd => ?_)
    · rw [if_neg hcnd] at hB
      refine gw_aload_n 2 rfl dJ2_linkNodeAtEnd_30 ?_
      refine gw_aload_n 0 rfl dJ2_linkNodeAtEnd_31 ?_
      obtain ⟨s9, hs9, hB⟩ := gB1_some hB
      refine gw_putf (C := RJ19) (T := TJ19) (N := 6) (k := 5) tyJ19 tyJ19_ok nmJ19 gcl11 (by decide) in_J19 q796 rfl (tyJ19_ok 5 (by decide)) (gNF_o _ _) hs9 dJ2_linkNodeAtEnd_32 ?_
      refine gw_aload_n 0 rfl dJ2_linkNodeAtEnd_35 ?_
      refine gw_aload_n 2 rfl dJ2_linkNodeAtEnd_36 ?_
      obtain ⟨s10, hs10, hB⟩ := gB1_some hB
      refine gw_putf (C := RJ19) (T := TJ19) (N := 6) (k := 4) tyJ19 tyJ19_ok nmJ19 gcl11 (by decide) in_J19 q794 rfl (tyJ19_ok 4 (by decide)) (gNF_o _ _) hs10 dJ2_linkNodeAtEnd_37 ?_
      exact gw_sub [] rfl (w_J2_linkNodeAtEnd_40   _ hB)
    · rw [if_pos hcnd] at hB
      refine gw_aload_n 1 rfl dJ2_linkNodeAtEnd_22 ?_
      refine gw_aload_n 2 rfl dJ2_linkNodeAtEnd_23 ?_
      obtain ⟨s11, hs11, hB⟩ := gB1_some hB
      refine gw_putf (C := RJ2) (T := TJ2) (N := 12) (k := 9) tyJ2 tyJ2_ok nmJ2 gcl10 (by decide) in_J2 q232 rfl (tyJ2_ok 9 (by decide)) (gNF_o _ _) hs11 dJ2_linkNodeAtEnd_24 ?_
      refine gw_goto (tgt := 40) dJ2_linkNodeAtEnd_27 (by decide) ?_
      exact gw_sub [] rfl (w_J2_linkNodeAtEnd_40   _ hB)
noncomputable def f_J2_linkNodeAtEnd (κ : gK) (F : Nat) (a0 : Option Nat) (a1 : Option Nat) (s : gS) : Option (Unit × gS) := f_J2_linkNodeAtEnd_0 κ F a0 a1 s
theorem m_J2_linkNodeAtEnd {E : gE} {F : Nat} (a0 : Option Nat) (a1 : Option Nat) (s : gS) (r : Unit) (s' : gS) (h : f_J2_linkNodeAtEnd (gk E) F a0 a1 s = some (r, s')) : gCT E 1 yJ2_linkNodeAtEnd (ws_ yJ2_linkNodeAtEnd cJ2_linkNodeAtEnd 3 none) [vR a0, vR a1] s (.inl none) s' := by
  refine gCT_of2 (fun h => absurd h (by decide)) (plainFor_of_name (by decide)) (Nat.le_of_ble_eq_true rfl) ?_
  exact gw_sub [0, 1] rfl (w_J2_linkNodeAtEnd_0 _ _ _ h)
def dkwJ2_newNode_0 : List UInt8 := [187, 0, 15, 89, 27, 44, 45, 25, 4, 183, 0, 28, 58, 5, 42, 25, 5, 182, 0, 32, 25, 5, 176]
abbrev dktJ2_newNode_0 : List UInt8 := dkwJ2_newNode_0 ++ []
theorem dksJ2_newNode_0 : cJ2_newNode.data.toList.drop 0 = dktJ2_newNode_0 := by decide +kernel
theorem dJ2_newNode_0 : decode cJ2_newNode 0 = .ok (.new 15, 3) := dk_187 0 15 (dk_at dksJ2_newNode_0 0 rfl rfl)
theorem dJ2_newNode_3 : decode cJ2_newNode 3 = .ok (.dup, 1) := dk_89 (dk_at dksJ2_newNode_0 3 rfl rfl)
theorem dJ2_newNode_4 : decode cJ2_newNode 4 = .ok (.iload_n 1, 1) := dk_27 (dk_at dksJ2_newNode_0 4 rfl rfl)
theorem dJ2_newNode_5 : decode cJ2_newNode 5 = .ok (.aload_n 2, 1) := dk_44 (dk_at dksJ2_newNode_0 5 rfl rfl)
theorem dJ2_newNode_6 : decode cJ2_newNode 6 = .ok (.aload_n 3, 1) := dk_45 (dk_at dksJ2_newNode_0 6 rfl rfl)
theorem dJ2_newNode_7 : decode cJ2_newNode 7 = .ok (.aload 4, 2) := dk_25 4 (dk_at dksJ2_newNode_0 7 rfl rfl)
theorem dJ2_newNode_9 : decode cJ2_newNode 9 = .ok (.invokespecial 28, 3) := dk_183 0 28 (dk_at dksJ2_newNode_0 9 rfl rfl)
theorem dJ2_newNode_12 : decode cJ2_newNode 12 = .ok (.astore 5, 2) := dk_58 5 (dk_at dksJ2_newNode_0 12 rfl rfl)
theorem dJ2_newNode_14 : decode cJ2_newNode 14 = .ok (.aload_n 0, 1) := dk_42 (dk_at dksJ2_newNode_0 14 rfl rfl)
theorem dJ2_newNode_15 : decode cJ2_newNode 15 = .ok (.aload 5, 2) := dk_25 5 (dk_at dksJ2_newNode_0 15 rfl rfl)
theorem dJ2_newNode_17 : decode cJ2_newNode 17 = .ok (.invokevirtual 32, 3) := dk_182 0 32 (dk_at dksJ2_newNode_0 17 rfl rfl)
theorem dJ2_newNode_20 : decode cJ2_newNode 20 = .ok (.aload 5, 2) := dk_25 5 (dk_at dksJ2_newNode_0 20 rfl rfl)
theorem dJ2_newNode_22 : decode cJ2_newNode 22 = .ok (.areturn, 1) := dk_176 (dk_at dksJ2_newNode_0 22 rfl rfl)
/-! java/util/LinkedHashMap.newNode(ILjava/lang/Object;Ljava/lang/Object;Ljava/util/HashMap$Node;)Ljava/util/HashMap$Node; -/
abbrev M_J2_newNode (z0 n0 : Nat) (s' : gS) : gM := (RJ2, cJ2_newNode, 6, (some (FieldType.object "java/util/HashMap$Node")), "newNode", [], 3, z0, n0, s'.2.1, s'.2.2)
abbrev W_J2_newNode (E : gE) (z0 n0 : Nat) (r : (Option Nat)) (s' : gS) (pc : Nat) (L : List (Nat × gV)) (st : List gV) (s : gS) : Prop := gW E (M_J2_newNode z0 n0 s') (gQm E (M_J2_newNode z0 n0 s') (.inl (some (vR r))) s') pc L st s
noncomputable def f_J2_newNode_0 (κ : gK) (F : Nat)  (l0 : Option Nat) (l1 : Int32) (l2 : Option Nat) (l3 : Option Nat) (l4 : Option Nat) (s : gS) : Option ((Option Nat) × gS) :=
  gB2 (gnw s 11 g0_J19 6) fun v1 s2 =>
  gB1 (gsm v1) fun _ =>
  gB2 (f_J19_init κ F v1 l1 l2 l3 l4 s2) fun v4 s3 =>
  gB1 (gck s3 l0 10) fun _ =>
  gB2 (f_J2_linkNodeAtEnd κ F l0 v1 s3) fun v7 s6 =>
  some (v1, s6)
set_option maxHeartbeats 4000000 in
theorem w_J2_newNode_0 {E : gE} {F z0 n0 : Nat} {r : (Option Nat)} {s' : gS}   : ∀ (l0 : Option Nat) (l1 : Int32) (l2 : Option Nat) (l3 : Option Nat) (l4 : Option Nat)  (s : gS), f_J2_newNode_0 (gk E) F  l0 l1 l2 l3 l4 s = some (r, s') → W_J2_newNode E z0 n0 r s' 0 [(0, vR l0), (1, vI l1), (2, vR l2), (3, vR l3), (4, vR l4)] [] s := by
  intro l0 l1 l2 l3 l4 s hB
  unfold f_J2_newNode_0 at hB
  obtain ⟨v1, s2, hv1, hB⟩ := gB2_some hB
  refine gw_new (C := RJ19) (T := TJ19) (N := 6) tyJ19 tyJ19_ok gcl11 in_J19 q785 q786 q135 g0_J19_ok hv1 dJ2_newNode_0 ?_
  refine gw_dup rfl dJ2_newNode_3 ?_
  refine gw_iload_n 1 rfl dJ2_newNode_4 ?_
  refine gw_aload_n 2 rfl dJ2_newNode_5 ?_
  refine gw_aload_n 3 rfl dJ2_newNode_6 ?_
  refine gw_aload 4 rfl dJ2_newNode_7 ?_
  obtain ⟨u0, hu5, hB⟩ := gB1_some hB
  obtain ⟨v4, s3, hv4, hB⟩ := gB2_some hB
  refine gw_callI (y := yJ19_init) (lw_meth q789) q135 q787 q788 rfl hdS_J19_init (gsm_spec hu5) (As := [vI l1, vR l2, vR l3, vR l4]) (rest := [vR v1]) (m_J19_init _ _ _ _ _ _ _ _ hv4) (Nat.le_of_ble_eq_true rfl) (Nat.le_of_ble_eq_true rfl) rfl (Nat.le_of_ble_eq_true rfl) dJ2_newNode_9 (gCont_v ?_)
  refine gw_astore (L' := [(5, vR v1), (0, vR l0), (1, vI l1), (2, vR l2), (3, vR l3), (4, vR l4)]) (Nat.le_of_ble_eq_true rfl) rfl dJ2_newNode_12 ?_
  refine gw_aload_n 1 rfl dJ2_newNode_14 ?_
  refine gw_aload 0 rfl dJ2_newNode_15 ?_
  obtain ⟨u0, hu8, hB⟩ := gB1_some hB
  obtain ⟨v7, s6, hv7, hB⟩ := gB2_some hB
  refine gw_callV (y := yJ2_linkNodeAtEnd) (lw_V q1121 q1123 qs4 q114 q1124) hdV_J2_linkNodeAtEnd gcl10 hu8 (As := [vR v1]) (rest := []) (m_J2_linkNodeAtEnd _ _ _ _ _ hv7) (Nat.le_of_ble_eq_true rfl) (Nat.le_of_ble_eq_true rfl) rfl (Nat.le_of_ble_eq_true rfl) dJ2_newNode_17 (gCont_v ?_)
  refine gw_aload 0 rfl dJ2_newNode_20 ?_
  obtain ⟨rfl, rfl⟩ := Prod.mk.inj (Option.some.inj hB)
  exact gw_aret rfl (Or.inl ⟨_, rfl⟩) rfl rfl dJ2_newNode_22
noncomputable def f_J2_newNode (κ : gK) (F : Nat) (a0 : Option Nat) (a1 : Int32) (a2 : Option Nat) (a3 : Option Nat) (a4 : Option Nat) (s : gS) : Option ((Option Nat) × gS) := f_J2_newNode_0 κ F a0 a1 a2 a3 a4 s
theorem m_J2_newNode {E : gE} {F : Nat} (a0 : Option Nat) (a1 : Int32) (a2 : Option Nat) (a3 : Option Nat) (a4 : Option Nat) (s : gS) (r : (Option Nat)) (s' : gS) (h : f_J2_newNode (gk E) F a0 a1 a2 a3 a4 s = some (r, s')) : gCT E 3 yJ2_newNode (ws_ yJ2_newNode cJ2_newNode 6 (some (FieldType.object "java/util/HashMap$Node"))) [vR a0, vI a1, vR a2, vR a3, vR a4] s (.inl (some (vR r))) s' := by
  refine gCT_of2 (fun h => absurd h (by decide)) (plainFor_of_name (by decide)) (Nat.le_of_ble_eq_true rfl) ?_
  exact gw_sub [0, 1, 2, 3, 4] rfl (w_J2_newNode_0 _ _ _ _ _ _ h)
def dkwJ2_transferLinks_2 : List UInt8 := [181, 0, 11, 167, 0, 9, 25, 4, 44, 181, 0, 19, 177]
abbrev dktJ2_transferLinks_2 : List UInt8 := dkwJ2_transferLinks_2 ++ []
def dkwJ2_transferLinks_1 : List UInt8 := [199, 0, 11, 42, 44, 181, 0, 7, 167, 0, 8, 45, 44, 181, 0, 14, 25, 4, 199, 0, 11, 42, 44]
abbrev dktJ2_transferLinks_1 : List UInt8 := dkwJ2_transferLinks_1 ++ dktJ2_transferLinks_2
def dkwJ2_transferLinks_0 : List UInt8 := [44, 43, 180, 0, 19, 90, 181, 0, 19, 78, 44, 43, 180, 0, 14, 90, 181, 0, 14, 58, 4, 45]
abbrev dktJ2_transferLinks_0 : List UInt8 := dkwJ2_transferLinks_0 ++ dktJ2_transferLinks_1
theorem dksJ2_transferLinks_0 : cJ2_transferLinks.data.toList.drop 0 = dktJ2_transferLinks_0 := by decide +kernel
theorem dksJ2_transferLinks_1 : cJ2_transferLinks.data.toList.drop 22 = dktJ2_transferLinks_1 := dk_seg dksJ2_transferLinks_0 22 rfl rfl
theorem dksJ2_transferLinks_2 : cJ2_transferLinks.data.toList.drop 45 = dktJ2_transferLinks_2 := dk_seg dksJ2_transferLinks_1 23 rfl rfl
theorem dJ2_transferLinks_0 : decode cJ2_transferLinks 0 = .ok (.aload_n 2, 1) := dk_44 (dk_at dksJ2_transferLinks_0 0 rfl rfl)
theorem dJ2_transferLinks_1 : decode cJ2_transferLinks 1 = .ok (.aload_n 1, 1) := dk_43 (dk_at dksJ2_transferLinks_0 1 rfl rfl)
theorem dJ2_transferLinks_2 : decode cJ2_transferLinks 2 = .ok (.getfield 19, 3) := dk_180 0 19 (dk_at dksJ2_transferLinks_0 2 rfl rfl)
theorem dJ2_transferLinks_5 : decode cJ2_transferLinks 5 = .ok (.dup_x1, 1) := dk_90 (dk_at dksJ2_transferLinks_0 5 rfl rfl)
theorem dJ2_transferLinks_6 : decode cJ2_transferLinks 6 = .ok (.putfield 19, 3) := dk_181 0 19 (dk_at dksJ2_transferLinks_0 6 rfl rfl)
theorem dJ2_transferLinks_9 : decode cJ2_transferLinks 9 = .ok (.astore_n 3, 1) := dk_78 (dk_at dksJ2_transferLinks_0 9 rfl rfl)
theorem dJ2_transferLinks_10 : decode cJ2_transferLinks 10 = .ok (.aload_n 2, 1) := dk_44 (dk_at dksJ2_transferLinks_0 10 rfl rfl)
theorem dJ2_transferLinks_11 : decode cJ2_transferLinks 11 = .ok (.aload_n 1, 1) := dk_43 (dk_at dksJ2_transferLinks_0 11 rfl rfl)
theorem dJ2_transferLinks_12 : decode cJ2_transferLinks 12 = .ok (.getfield 14, 3) := dk_180 0 14 (dk_at dksJ2_transferLinks_0 12 rfl rfl)
theorem dJ2_transferLinks_15 : decode cJ2_transferLinks 15 = .ok (.dup_x1, 1) := dk_90 (dk_at dksJ2_transferLinks_0 15 rfl rfl)
theorem dJ2_transferLinks_16 : decode cJ2_transferLinks 16 = .ok (.putfield 14, 3) := dk_181 0 14 (dk_at dksJ2_transferLinks_0 16 rfl rfl)
theorem dJ2_transferLinks_19 : decode cJ2_transferLinks 19 = .ok (.astore 4, 2) := dk_58 4 (dk_at dksJ2_transferLinks_0 19 rfl rfl)
theorem dJ2_transferLinks_21 : decode cJ2_transferLinks 21 = .ok (.aload_n 3, 1) := dk_45 (dk_at dksJ2_transferLinks_0 21 rfl rfl)
theorem dJ2_transferLinks_22 : decode cJ2_transferLinks 22 = .ok (.ifnonnull 11, 3) := dk_199 0 11 (dk_at dksJ2_transferLinks_1 0 rfl rfl)
theorem dJ2_transferLinks_25 : decode cJ2_transferLinks 25 = .ok (.aload_n 0, 1) := dk_42 (dk_at dksJ2_transferLinks_1 3 rfl rfl)
theorem dJ2_transferLinks_26 : decode cJ2_transferLinks 26 = .ok (.aload_n 2, 1) := dk_44 (dk_at dksJ2_transferLinks_1 4 rfl rfl)
theorem dJ2_transferLinks_27 : decode cJ2_transferLinks 27 = .ok (.putfield 7, 3) := dk_181 0 7 (dk_at dksJ2_transferLinks_1 5 rfl rfl)
theorem dJ2_transferLinks_30 : decode cJ2_transferLinks 30 = .ok (.goto 8, 3) := dk_167 0 8 (dk_at dksJ2_transferLinks_1 8 rfl rfl)
theorem dJ2_transferLinks_33 : decode cJ2_transferLinks 33 = .ok (.aload_n 3, 1) := dk_45 (dk_at dksJ2_transferLinks_1 11 rfl rfl)
theorem dJ2_transferLinks_34 : decode cJ2_transferLinks 34 = .ok (.aload_n 2, 1) := dk_44 (dk_at dksJ2_transferLinks_1 12 rfl rfl)
theorem dJ2_transferLinks_35 : decode cJ2_transferLinks 35 = .ok (.putfield 14, 3) := dk_181 0 14 (dk_at dksJ2_transferLinks_1 13 rfl rfl)
theorem dJ2_transferLinks_38 : decode cJ2_transferLinks 38 = .ok (.aload 4, 2) := dk_25 4 (dk_at dksJ2_transferLinks_1 16 rfl rfl)
theorem dJ2_transferLinks_40 : decode cJ2_transferLinks 40 = .ok (.ifnonnull 11, 3) := dk_199 0 11 (dk_at dksJ2_transferLinks_1 18 rfl rfl)
theorem dJ2_transferLinks_43 : decode cJ2_transferLinks 43 = .ok (.aload_n 0, 1) := dk_42 (dk_at dksJ2_transferLinks_1 21 rfl rfl)
theorem dJ2_transferLinks_44 : decode cJ2_transferLinks 44 = .ok (.aload_n 2, 1) := dk_44 (dk_at dksJ2_transferLinks_1 22 rfl rfl)
theorem dJ2_transferLinks_45 : decode cJ2_transferLinks 45 = .ok (.putfield 11, 3) := dk_181 0 11 (dk_at dksJ2_transferLinks_2 0 rfl rfl)
theorem dJ2_transferLinks_48 : decode cJ2_transferLinks 48 = .ok (.goto 9, 3) := dk_167 0 9 (dk_at dksJ2_transferLinks_2 3 rfl rfl)
theorem dJ2_transferLinks_51 : decode cJ2_transferLinks 51 = .ok (.aload 4, 2) := dk_25 4 (dk_at dksJ2_transferLinks_2 6 rfl rfl)
theorem dJ2_transferLinks_53 : decode cJ2_transferLinks 53 = .ok (.aload_n 2, 1) := dk_44 (dk_at dksJ2_transferLinks_2 8 rfl rfl)
theorem dJ2_transferLinks_54 : decode cJ2_transferLinks 54 = .ok (.putfield 19, 3) := dk_181 0 19 (dk_at dksJ2_transferLinks_2 9 rfl rfl)
theorem dJ2_transferLinks_57 : decode cJ2_transferLinks 57 = .ok (.return_, 1) := dk_177 (dk_at dksJ2_transferLinks_2 12 rfl rfl)
/-! java/util/LinkedHashMap.transferLinks(Ljava/util/LinkedHashMap$Entry;Ljava/util/LinkedHashMap$Entry;)V -/
abbrev M_J2_transferLinks (z0 n0 : Nat) (s' : gS) : gM := (RJ2, cJ2_transferLinks, 5, none, "transferLinks", [], 1, z0, n0, s'.2.1, s'.2.2)
abbrev W_J2_transferLinks (E : gE) (z0 n0 : Nat) (r : Unit) (s' : gS) (pc : Nat) (L : List (Nat × gV)) (st : List gV) (s : gS) : Prop := gW E (M_J2_transferLinks z0 n0 s') (gQm E (M_J2_transferLinks z0 n0 s') (.inl none) s') pc L st s
noncomputable def f_J2_transferLinks_57 (κ : gK) (F : Nat)   (s : gS) : Option (Unit × gS) :=
  some ((), s)
set_option maxHeartbeats 4000000 in
theorem w_J2_transferLinks_57 {E : gE} {F z0 n0 : Nat} {r : Unit} {s' : gS}   : ∀   (s : gS), f_J2_transferLinks_57 (gk E) F   s = some (r, s') → W_J2_transferLinks E z0 n0 r s' 57 [] [] s := by
  intro  s hB
  unfold f_J2_transferLinks_57 at hB
  obtain ⟨rfl, rfl⟩ := Prod.mk.inj (Option.some.inj hB)
  exact gw_vret rfl rfl rfl dJ2_transferLinks_57
noncomputable def f_J2_transferLinks_38 (κ : gK) (F : Nat)  (l0 : Option Nat) (l2 : Option Nat) (l4 : Option Nat) (s : gS) : Option (Unit × gS) :=
  if l4 = none then
    gB1 (gpf κ s l0 10 9 (va_rf l2)) fun s2 =>
    f_J2_transferLinks_57 κ F  s2
  else
    gB1 (gpf κ s l4 11 4 (va_rf l2)) fun s1 =>
    f_J2_transferLinks_57 κ F  s1
set_option maxHeartbeats 4000000 in
theorem w_J2_transferLinks_38 {E : gE} {F z0 n0 : Nat} {r : Unit} {s' : gS}   : ∀ (l0 : Option Nat) (l2 : Option Nat) (l4 : Option Nat)  (s : gS), f_J2_transferLinks_38 (gk E) F  l0 l2 l4 s = some (r, s') → W_J2_transferLinks E z0 n0 r s' 38 [(0, vR l0), (2, vR l2), (4, vR l4)] [] s := by
  intro l0 l2 l4 s hB
  unfold f_J2_transferLinks_38 at hB
  refine gw_aload 2 rfl dJ2_transferLinks_38 ?_
  refine gw_ifnonnull (tgt := 51) dJ2_transferLinks_40 (by decide) (fun hcnd => ?_) (fun hcnd => ?_)
  · rw [if_neg hcnd] at hB
    refine gw_aload 2 rfl dJ2_transferLinks_51 ?_
    refine gw_aload_n 1 rfl dJ2_transferLinks_53 ?_
    obtain ⟨s1, hs1, hB⟩ := gB1_some hB
    refine gw_putf (C := RJ19) (T := TJ19) (N := 6) (k := 4) tyJ19 tyJ19_ok nmJ19 gcl11 (by decide) in_J19 q794 rfl (tyJ19_ok 4 (by decide)) (gNF_o _ _) hs1 dJ2_transferLinks_54 ?_
    exact gw_sub [] rfl (w_J2_transferLinks_57   _ hB)
  · rw [if_pos hcnd] at hB
    refine gw_aload_n 0 rfl dJ2_transferLinks_43 ?_
    refine gw_aload_n 1 rfl dJ2_transferLinks_44 ?_
    obtain ⟨s2, hs2, hB⟩ := gB1_some hB
    refine gw_putf (C := RJ2) (T := TJ2) (N := 12) (k := 9) tyJ2 tyJ2_ok nmJ2 gcl10 (by decide) in_J2 q232 rfl (tyJ2_ok 9 (by decide)) (gNF_o _ _) hs2 dJ2_transferLinks_45 ?_
    refine gw_goto (tgt := 57) dJ2_transferLinks_48 (by decide) ?_
    exact gw_sub [] rfl (w_J2_transferLinks_57   _ hB)
noncomputable def f_J2_transferLinks_0 (κ : gK) (F : Nat)  (l0 : Option Nat) (l1 : Option Nat) (l2 : Option Nat) (s : gS) : Option (Unit × gS) :=
  gB1 (gfR s l1 11 4) fun v1 =>
  gB1 (gpf κ s l2 11 4 (va_rf v1)) fun s2 =>
  gB1 (gfR s2 l1 11 5) fun v3 =>
  gB1 (gpf κ s2 l2 11 5 (va_rf v3)) fun s4 =>
  if v1 = none then
    gB1 (gpf κ s4 l0 10 8 (va_rf l2)) fun s6 =>
    f_J2_transferLinks_38 κ F  l0 l2 v3 s6
  else
    gB1 (gpf κ s4 v1 11 5 (va_rf l2)) fun s5 =>
    f_J2_transferLinks_38 κ F  l0 l2 v3 s5
set_option maxHeartbeats 4000000 in
theorem w_J2_transferLinks_0 {E : gE} {F z0 n0 : Nat} {r : Unit} {s' : gS}   : ∀ (l0 : Option Nat) (l1 : Option Nat) (l2 : Option Nat)  (s : gS), f_J2_transferLinks_0 (gk E) F  l0 l1 l2 s = some (r, s') → W_J2_transferLinks E z0 n0 r s' 0 [(0, vR l0), (1, vR l1), (2, vR l2)] [] s := by
  intro l0 l1 l2 s hB
  unfold f_J2_transferLinks_0 at hB
  refine gw_aload_n 2 rfl dJ2_transferLinks_0 ?_
  refine gw_aload_n 1 rfl dJ2_transferLinks_1 ?_
  obtain ⟨v1, hv1, hB⟩ := gB1_some hB
  refine gw_getf (C := RJ19) (T := TJ19) (N := 6) (k := 4) gcl11 (by decide) in_J19 q794 (gfR_spec hv1) dJ2_transferLinks_2 ?_
  refine gw_dup_x1 rfl rfl dJ2_transferLinks_5 ?_
  obtain ⟨s2, hs2, hB⟩ := gB1_some hB
  refine gw_putf (C := RJ19) (T := TJ19) (N := 6) (k := 4) tyJ19 tyJ19_ok nmJ19 gcl11 (by decide) in_J19 q794 rfl (tyJ19_ok 4 (by decide)) (gNF_o _ _) hs2 dJ2_transferLinks_6 ?_
  refine gw_astore_n (L' := [(3, vR v1), (0, vR l0), (1, vR l1), (2, vR l2)]) (Nat.le_of_ble_eq_true rfl) rfl dJ2_transferLinks_9 ?_
  refine gw_aload_n 3 rfl dJ2_transferLinks_10 ?_
  refine gw_aload_n 2 rfl dJ2_transferLinks_11 ?_
  obtain ⟨v3, hv3, hB⟩ := gB1_some hB
  refine gw_getf (C := RJ19) (T := TJ19) (N := 6) (k := 5) gcl11 (by decide) in_J19 q796 (gfR_spec hv3) dJ2_transferLinks_12 ?_
  refine gw_dup_x1 rfl rfl dJ2_transferLinks_15 ?_
  obtain ⟨s4, hs4, hB⟩ := gB1_some hB
  refine gw_putf (C := RJ19) (T := TJ19) (N := 6) (k := 5) tyJ19 tyJ19_ok nmJ19 gcl11 (by decide) in_J19 q796 rfl (tyJ19_ok 5 (by decide)) (gNF_o _ _) hs4 dJ2_transferLinks_16 ?_
  refine gw_astore (L' := [(4, vR v3), (3, vR v1), (0, vR l0), (1, vR l1), (2, vR l2)]) (Nat.le_of_ble_eq_true rfl) rfl dJ2_transferLinks_19 ?_
  refine gw_aload_n 1 rfl dJ2_transferLinks_21 ?_
  refine gw_ifnonnull (tgt := 33) dJ2_transferLinks_22 (by decide) (fun hcnd => ?_) (fun hcnd => ?_)
  · rw [if_neg hcnd] at hB
    refine gw_aload_n 1 rfl dJ2_transferLinks_33 ?_
    refine gw_aload_n 4 rfl dJ2_transferLinks_34 ?_
    obtain ⟨s5, hs5, hB⟩ := gB1_some hB
    refine gw_putf (C := RJ19) (T := TJ19) (N := 6) (k := 5) tyJ19 tyJ19_ok nmJ19 gcl11 (by decide) in_J19 q796 rfl (tyJ19_ok 5 (by decide)) (gNF_o _ _) hs5 dJ2_transferLinks_35 ?_
    exact gw_sub [2, 4, 0] rfl (w_J2_transferLinks_38  _ _ _ _ hB)
  · rw [if_pos hcnd] at hB
    refine gw_aload_n 2 rfl dJ2_transferLinks_25 ?_
    refine gw_aload_n 4 rfl dJ2_transferLinks_26 ?_
    obtain ⟨s6, hs6, hB⟩ := gB1_some hB
    refine gw_putf (C := RJ2) (T := TJ2) (N := 12) (k := 8) tyJ2 tyJ2_ok nmJ2 gcl10 (by decide) in_J2 q229 rfl (tyJ2_ok 8 (by decide)) (gNF_o _ _) hs6 dJ2_transferLinks_27 ?_
    refine gw_goto (tgt := 38) dJ2_transferLinks_30 (by decide) ?_
    exact gw_sub [2, 4, 0] rfl (w_J2_transferLinks_38  _ _ _ _ hB)
noncomputable def f_J2_transferLinks (κ : gK) (F : Nat) (a0 : Option Nat) (a1 : Option Nat) (a2 : Option Nat) (s : gS) : Option (Unit × gS) := f_J2_transferLinks_0 κ F a0 a1 a2 s
theorem m_J2_transferLinks {E : gE} {F : Nat} (a0 : Option Nat) (a1 : Option Nat) (a2 : Option Nat) (s : gS) (r : Unit) (s' : gS) (h : f_J2_transferLinks (gk E) F a0 a1 a2 s = some (r, s')) : gCT E 1 yJ2_transferLinks (ws_ yJ2_transferLinks cJ2_transferLinks 5 none) [vR a0, vR a1, vR a2] s (.inl none) s' := by
  refine gCT_of2 (fun h => absurd h (by decide)) (plainFor_of_name (by decide)) (Nat.le_of_ble_eq_true rfl) ?_
  exact gw_sub [0, 1, 2] rfl (w_J2_transferLinks_0 _ _ _ _ h)
def dkwJ2_replacementTreeNode_1 : List UInt8 := [183, 0, 52, 58, 4, 42, 45, 25, 4, 182, 0, 46, 25, 4, 176]
abbrev dktJ2_replacementTreeNode_1 : List UInt8 := dkwJ2_replacementTreeNode_1 ++ []
def dkwJ2_replacementTreeNode_0 : List UInt8 := [43, 192, 0, 15, 78, 187, 0, 50, 89, 45, 180, 0, 36, 45, 180, 0, 39, 45, 180, 0, 43, 44]
abbrev dktJ2_replacementTreeNode_0 : List UInt8 := dkwJ2_replacementTreeNode_0 ++ dktJ2_replacementTreeNode_1
theorem dksJ2_replacementTreeNode_0 : cJ2_replacementTreeNode.data.toList.drop 0 = dktJ2_replacementTreeNode_0 := by decide +kernel
theorem dksJ2_replacementTreeNode_1 : cJ2_replacementTreeNode.data.toList.drop 22 = dktJ2_replacementTreeNode_1 := dk_seg dksJ2_replacementTreeNode_0 22 rfl rfl
theorem dJ2_replacementTreeNode_0 : decode cJ2_replacementTreeNode 0 = .ok (.aload_n 1, 1) := dk_43 (dk_at dksJ2_replacementTreeNode_0 0 rfl rfl)
theorem dJ2_replacementTreeNode_1 : decode cJ2_replacementTreeNode 1 = .ok (.checkcast 15, 3) := dk_192 0 15 (dk_at dksJ2_replacementTreeNode_0 1 rfl rfl)
theorem dJ2_replacementTreeNode_4 : decode cJ2_replacementTreeNode 4 = .ok (.astore_n 3, 1) := dk_78 (dk_at dksJ2_replacementTreeNode_0 4 rfl rfl)
theorem dJ2_replacementTreeNode_5 : decode cJ2_replacementTreeNode 5 = .ok (.new 50, 3) := dk_187 0 50 (dk_at dksJ2_replacementTreeNode_0 5 rfl rfl)
theorem dJ2_replacementTreeNode_8 : decode cJ2_replacementTreeNode 8 = .ok (.dup, 1) := dk_89 (dk_at dksJ2_replacementTreeNode_0 8 rfl rfl)
theorem dJ2_replacementTreeNode_9 : decode cJ2_replacementTreeNode 9 = .ok (.aload_n 3, 1) := dk_45 (dk_at dksJ2_replacementTreeNode_0 9 rfl rfl)
theorem dJ2_replacementTreeNode_10 : decode cJ2_replacementTreeNode 10 = .ok (.getfield 36, 3) := dk_180 0 36 (dk_at dksJ2_replacementTreeNode_0 10 rfl rfl)
theorem dJ2_replacementTreeNode_13 : decode cJ2_replacementTreeNode 13 = .ok (.aload_n 3, 1) := dk_45 (dk_at dksJ2_replacementTreeNode_0 13 rfl rfl)
theorem dJ2_replacementTreeNode_14 : decode cJ2_replacementTreeNode 14 = .ok (.getfield 39, 3) := dk_180 0 39 (dk_at dksJ2_replacementTreeNode_0 14 rfl rfl)
theorem dJ2_replacementTreeNode_17 : decode cJ2_replacementTreeNode 17 = .ok (.aload_n 3, 1) := dk_45 (dk_at dksJ2_replacementTreeNode_0 17 rfl rfl)
theorem dJ2_replacementTreeNode_18 : decode cJ2_replacementTreeNode 18 = .ok (.getfield 43, 3) := dk_180 0 43 (dk_at dksJ2_replacementTreeNode_0 18 rfl rfl)
theorem dJ2_replacementTreeNode_21 : decode cJ2_replacementTreeNode 21 = .ok (.aload_n 2, 1) := dk_44 (dk_at dksJ2_replacementTreeNode_0 21 rfl rfl)
theorem dJ2_replacementTreeNode_22 : decode cJ2_replacementTreeNode 22 = .ok (.invokespecial 52, 3) := dk_183 0 52 (dk_at dksJ2_replacementTreeNode_1 0 rfl rfl)
theorem dJ2_replacementTreeNode_25 : decode cJ2_replacementTreeNode 25 = .ok (.astore 4, 2) := dk_58 4 (dk_at dksJ2_replacementTreeNode_1 3 rfl rfl)
theorem dJ2_replacementTreeNode_27 : decode cJ2_replacementTreeNode 27 = .ok (.aload_n 0, 1) := dk_42 (dk_at dksJ2_replacementTreeNode_1 5 rfl rfl)
theorem dJ2_replacementTreeNode_28 : decode cJ2_replacementTreeNode 28 = .ok (.aload_n 3, 1) := dk_45 (dk_at dksJ2_replacementTreeNode_1 6 rfl rfl)
theorem dJ2_replacementTreeNode_29 : decode cJ2_replacementTreeNode 29 = .ok (.aload 4, 2) := dk_25 4 (dk_at dksJ2_replacementTreeNode_1 7 rfl rfl)
theorem dJ2_replacementTreeNode_31 : decode cJ2_replacementTreeNode 31 = .ok (.invokevirtual 46, 3) := dk_182 0 46 (dk_at dksJ2_replacementTreeNode_1 9 rfl rfl)
theorem dJ2_replacementTreeNode_34 : decode cJ2_replacementTreeNode 34 = .ok (.aload 4, 2) := dk_25 4 (dk_at dksJ2_replacementTreeNode_1 12 rfl rfl)
theorem dJ2_replacementTreeNode_36 : decode cJ2_replacementTreeNode 36 = .ok (.areturn, 1) := dk_176 (dk_at dksJ2_replacementTreeNode_1 14 rfl rfl)
/-! java/util/LinkedHashMap.replacementTreeNode(Ljava/util/HashMap$Node;Ljava/util/HashMap$Node;)Ljava/util/HashMap$TreeNode; -/
abbrev M_J2_replacementTreeNode (z0 n0 : Nat) (s' : gS) : gM := (RJ2, cJ2_replacementTreeNode, 5, (some (FieldType.object "java/util/HashMap$TreeNode")), "replacementTreeNode", [], 1, z0, n0, s'.2.1, s'.2.2)
abbrev W_J2_replacementTreeNode (E : gE) (z0 n0 : Nat) (r : (Option Nat)) (s' : gS) (pc : Nat) (L : List (Nat × gV)) (st : List gV) (s : gS) : Prop := gW E (M_J2_replacementTreeNode z0 n0 s') (gQm E (M_J2_replacementTreeNode z0 n0 s') (.inl (some (vR r))) s') pc L st s
noncomputable def f_J2_replacementTreeNode_0 (κ : gK) (F : Nat)  (l0 : Option Nat) (l1 : Option Nat) (l2 : Option Nat) (s : gS) : Option ((Option Nat) × gS) :=
  gB1 (gcc s l1 11) fun _ =>
  none
set_option maxHeartbeats 4000000 in
theorem w_J2_replacementTreeNode_0 {E : gE} {F z0 n0 : Nat} {r : (Option Nat)} {s' : gS}   : ∀ (l0 : Option Nat) (l1 : Option Nat) (l2 : Option Nat)  (s : gS), f_J2_replacementTreeNode_0 (gk E) F  l0 l1 l2 s = some (r, s') → W_J2_replacementTreeNode E z0 n0 r s' 0 [(0, vR l0), (1, vR l1), (2, vR l2)] [] s := by
  intro l0 l1 l2 s hB
  unfold f_J2_replacementTreeNode_0 at hB
  refine gw_aload_n 1 rfl dJ2_replacementTreeNode_0 ?_
  obtain ⟨u0, hu1, hB⟩ := gB1_some hB
  refine gw_cast (C := RJ19) gcl11 hu1 q785 (Or.inl rfl) dJ2_replacementTreeNode_1 ?_
  refine gw_astore_n (L' := [(3, vR l1), (0, vR l0), (1, vR l1), (2, vR l2)]) (Nat.le_of_ble_eq_true rfl) rfl dJ2_replacementTreeNode_4 ?_
  cases hB
noncomputable def f_J2_replacementTreeNode (κ : gK) (F : Nat) (a0 : Option Nat) (a1 : Option Nat) (a2 : Option Nat) (s : gS) : Option ((Option Nat) × gS) := f_J2_replacementTreeNode_0 κ F a0 a1 a2 s
theorem m_J2_replacementTreeNode {E : gE} {F : Nat} (a0 : Option Nat) (a1 : Option Nat) (a2 : Option Nat) (s : gS) (r : (Option Nat)) (s' : gS) (h : f_J2_replacementTreeNode (gk E) F a0 a1 a2 s = some (r, s')) : gCT E 1 yJ2_replacementTreeNode (ws_ yJ2_replacementTreeNode cJ2_replacementTreeNode 5 (some (FieldType.object "java/util/HashMap$TreeNode"))) [vR a0, vR a1, vR a2] s (.inl (some (vR r))) s' := by
  refine gCT_of2 (fun h => absurd h (by decide)) (plainFor_of_name (by decide)) (Nat.le_of_ble_eq_true rfl) ?_
  exact gw_sub [0, 1, 2] rfl (w_J2_replacementTreeNode_0 _ _ _ _ h)
def dkwJ2_afterNodeAccess_11 : List UInt8 := [181, 0, 7, 42, 89, 180, 0, 68, 4, 96, 181, 0, 68, 177]
abbrev dktJ2_afterNodeAccess_11 : List UInt8 := dkwJ2_afterNodeAccess_11 ++ []
def dkwJ2_afterNodeAccess_10 : List UInt8 := [25, 4, 181, 0, 11, 167, 0, 15, 25, 4, 45, 181, 0, 14, 45, 25, 4, 181, 0, 19, 42, 25, 4]
abbrev dktJ2_afterNodeAccess_10 : List UInt8 := dkwJ2_afterNodeAccess_10 ++ dktJ2_afterNodeAccess_11
def dkwJ2_afterNodeAccess_9 : List UInt8 := [25, 5, 198, 0, 13, 25, 5, 25, 6, 181, 0, 14, 167, 0, 6, 25, 6, 78, 45, 199, 0, 12, 42]
abbrev dktJ2_afterNodeAccess_9 : List UInt8 := dkwJ2_afterNodeAccess_9 ++ dktJ2_afterNodeAccess_10
def dkwJ2_afterNodeAccess_8 : List UInt8 := [181, 0, 19, 25, 6, 199, 0, 12, 42, 25, 5, 181, 0, 11, 167, 0, 10, 25, 6, 25, 5, 181, 0, 19]
abbrev dktJ2_afterNodeAccess_8 : List UInt8 := dkwJ2_afterNodeAccess_8 ++ dktJ2_afterNodeAccess_9
def dkwJ2_afterNodeAccess_7 : List UInt8 := [43, 192, 0, 15, 58, 4, 25, 4, 180, 0, 19, 58, 5, 25, 4, 180, 0, 14, 58, 6, 25, 4, 1]
abbrev dktJ2_afterNodeAccess_7 : List UInt8 := dkwJ2_afterNodeAccess_7 ++ dktJ2_afterNodeAccess_8
def dkwJ2_afterNodeAccess_6 : List UInt8 := [181, 0, 68, 167, 0, 127, 42, 180, 0, 1, 4, 160, 0, 119, 42, 180, 0, 7, 89, 78, 43, 165, 0, 109]
abbrev dktJ2_afterNodeAccess_6 : List UInt8 := dkwJ2_afterNodeAccess_6 ++ dktJ2_afterNodeAccess_7
def dkwJ2_afterNodeAccess_5 : List UInt8 := [181, 0, 19, 44, 25, 4, 181, 0, 14, 42, 25, 4, 181, 0, 11, 42, 89, 180, 0, 68, 4, 96]
abbrev dktJ2_afterNodeAccess_5 : List UInt8 := dkwJ2_afterNodeAccess_5 ++ dktJ2_afterNodeAccess_6
def dkwJ2_afterNodeAccess_4 : List UInt8 := [167, 0, 6, 25, 5, 77, 44, 199, 0, 12, 42, 25, 4, 181, 0, 7, 167, 0, 15, 25, 4, 44]
abbrev dktJ2_afterNodeAccess_4 : List UInt8 := dkwJ2_afterNodeAccess_4 ++ dktJ2_afterNodeAccess_5
def dkwJ2_afterNodeAccess_3 : List UInt8 := [167, 0, 10, 25, 5, 25, 6, 181, 0, 14, 25, 6, 198, 0, 13, 25, 6, 25, 5, 181, 0, 19]
abbrev dktJ2_afterNodeAccess_3 : List UInt8 := dkwJ2_afterNodeAccess_3 ++ dktJ2_afterNodeAccess_4
def dkwJ2_afterNodeAccess_2 : List UInt8 := [180, 0, 14, 58, 6, 25, 4, 1, 181, 0, 14, 25, 5, 199, 0, 12, 42, 25, 6, 181, 0, 7]
abbrev dktJ2_afterNodeAccess_2 : List UInt8 := dkwJ2_afterNodeAccess_2 ++ dktJ2_afterNodeAccess_3
def dkwJ2_afterNodeAccess_1 : List UInt8 := [180, 0, 11, 89, 77, 43, 165, 0, 112, 43, 192, 0, 15, 58, 4, 25, 4, 180, 0, 19, 58, 5, 25, 4]
abbrev dktJ2_afterNodeAccess_1 : List UInt8 := dkwJ2_afterNodeAccess_1 ++ dktJ2_afterNodeAccess_2
def dkwJ2_afterNodeAccess_0 : List UInt8 := [42, 180, 0, 1, 5, 159, 0, 17, 42, 180, 0, 1, 154, 0, 129, 42, 180, 0, 64, 153, 0, 122, 42]
abbrev dktJ2_afterNodeAccess_0 : List UInt8 := dkwJ2_afterNodeAccess_0 ++ dktJ2_afterNodeAccess_1
theorem dksJ2_afterNodeAccess_0 : cJ2_afterNodeAccess.data.toList.drop 0 = dktJ2_afterNodeAccess_0 := by decide +kernel
theorem dksJ2_afterNodeAccess_1 : cJ2_afterNodeAccess.data.toList.drop 23 = dktJ2_afterNodeAccess_1 := dk_seg dksJ2_afterNodeAccess_0 23 rfl rfl
theorem dksJ2_afterNodeAccess_2 : cJ2_afterNodeAccess.data.toList.drop 47 = dktJ2_afterNodeAccess_2 := dk_seg dksJ2_afterNodeAccess_1 24 rfl rfl
theorem dksJ2_afterNodeAccess_3 : cJ2_afterNodeAccess.data.toList.drop 69 = dktJ2_afterNodeAccess_3 := dk_seg dksJ2_afterNodeAccess_2 22 rfl rfl
theorem dksJ2_afterNodeAccess_4 : cJ2_afterNodeAccess.data.toList.drop 91 = dktJ2_afterNodeAccess_4 := dk_seg dksJ2_afterNodeAccess_3 22 rfl rfl
theorem dksJ2_afterNodeAccess_5 : cJ2_afterNodeAccess.data.toList.drop 113 = dktJ2_afterNodeAccess_5 := dk_seg dksJ2_afterNodeAccess_4 22 rfl rfl
theorem dksJ2_afterNodeAccess_6 : cJ2_afterNodeAccess.data.toList.drop 135 = dktJ2_afterNodeAccess_6 := dk_seg dksJ2_afterNodeAccess_5 22 rfl rfl
theorem dksJ2_afterNodeAccess_7 : cJ2_afterNodeAccess.data.toList.drop 159 = dktJ2_afterNodeAccess_7 := dk_seg dksJ2_afterNodeAccess_6 24 rfl rfl
theorem dksJ2_afterNodeAccess_8 : cJ2_afterNodeAccess.data.toList.drop 182 = dktJ2_afterNodeAccess_8 := dk_seg dksJ2_afterNodeAccess_7 23 rfl rfl
theorem dksJ2_afterNodeAccess_9 : cJ2_afterNodeAccess.data.toList.drop 206 = dktJ2_afterNodeAccess_9 := dk_seg dksJ2_afterNodeAccess_8 24 rfl rfl
theorem dksJ2_afterNodeAccess_10 : cJ2_afterNodeAccess.data.toList.drop 229 = dktJ2_afterNodeAccess_10 := dk_seg dksJ2_afterNodeAccess_9 23 rfl rfl
theorem dksJ2_afterNodeAccess_11 : cJ2_afterNodeAccess.data.toList.drop 252 = dktJ2_afterNodeAccess_11 := dk_seg dksJ2_afterNodeAccess_10 23 rfl rfl
theorem dJ2_afterNodeAccess_0 : decode cJ2_afterNodeAccess 0 = .ok (.aload_n 0, 1) := dk_42 (dk_at dksJ2_afterNodeAccess_0 0 rfl rfl)
theorem dJ2_afterNodeAccess_1 : decode cJ2_afterNodeAccess 1 = .ok (.getfield 1, 3) := dk_180 0 1 (dk_at dksJ2_afterNodeAccess_0 1 rfl rfl)
theorem dJ2_afterNodeAccess_4 : decode cJ2_afterNodeAccess 4 = .ok (.iconst 2, 1) := dk_5 (dk_at dksJ2_afterNodeAccess_0 4 rfl rfl)
theorem dJ2_afterNodeAccess_5 : decode cJ2_afterNodeAccess 5 = .ok (.if_icmp .eq 17, 3) := dk_159 0 17 (dk_at dksJ2_afterNodeAccess_0 5 rfl rfl)
theorem dJ2_afterNodeAccess_8 : decode cJ2_afterNodeAccess 8 = .ok (.aload_n 0, 1) := dk_42 (dk_at dksJ2_afterNodeAccess_0 8 rfl rfl)
theorem dJ2_afterNodeAccess_9 : decode cJ2_afterNodeAccess 9 = .ok (.getfield 1, 3) := dk_180 0 1 (dk_at dksJ2_afterNodeAccess_0 9 rfl rfl)
theorem dJ2_afterNodeAccess_12 : decode cJ2_afterNodeAccess 12 = .ok (.ifCond .ne 129, 3) := dk_154 0 129 (dk_at dksJ2_afterNodeAccess_0 12 rfl rfl)
theorem dJ2_afterNodeAccess_15 : decode cJ2_afterNodeAccess 15 = .ok (.aload_n 0, 1) := dk_42 (dk_at dksJ2_afterNodeAccess_0 15 rfl rfl)
theorem dJ2_afterNodeAccess_16 : decode cJ2_afterNodeAccess 16 = .ok (.getfield 64, 3) := dk_180 0 64 (dk_at dksJ2_afterNodeAccess_0 16 rfl rfl)
theorem dJ2_afterNodeAccess_19 : decode cJ2_afterNodeAccess 19 = .ok (.ifCond .eq 122, 3) := dk_153 0 122 (dk_at dksJ2_afterNodeAccess_0 19 rfl rfl)
theorem dJ2_afterNodeAccess_22 : decode cJ2_afterNodeAccess 22 = .ok (.aload_n 0, 1) := dk_42 (dk_at dksJ2_afterNodeAccess_0 22 rfl rfl)
theorem dJ2_afterNodeAccess_23 : decode cJ2_afterNodeAccess 23 = .ok (.getfield 11, 3) := dk_180 0 11 (dk_at dksJ2_afterNodeAccess_1 0 rfl rfl)
theorem dJ2_afterNodeAccess_26 : decode cJ2_afterNodeAccess 26 = .ok (.dup, 1) := dk_89 (dk_at dksJ2_afterNodeAccess_1 3 rfl rfl)
theorem dJ2_afterNodeAccess_27 : decode cJ2_afterNodeAccess 27 = .ok (.astore_n 2, 1) := dk_77 (dk_at dksJ2_afterNodeAccess_1 4 rfl rfl)
theorem dJ2_afterNodeAccess_28 : decode cJ2_afterNodeAccess 28 = .ok (.aload_n 1, 1) := dk_43 (dk_at dksJ2_afterNodeAccess_1 5 rfl rfl)
theorem dJ2_afterNodeAccess_29 : decode cJ2_afterNodeAccess 29 = .ok (.if_acmp .eq 112, 3) := dk_165 0 112 (dk_at dksJ2_afterNodeAccess_1 6 rfl rfl)
theorem dJ2_afterNodeAccess_32 : decode cJ2_afterNodeAccess 32 = .ok (.aload_n 1, 1) := dk_43 (dk_at dksJ2_afterNodeAccess_1 9 rfl rfl)
theorem dJ2_afterNodeAccess_33 : decode cJ2_afterNodeAccess 33 = .ok (.checkcast 15, 3) := dk_192 0 15 (dk_at dksJ2_afterNodeAccess_1 10 rfl rfl)
theorem dJ2_afterNodeAccess_36 : decode cJ2_afterNodeAccess 36 = .ok (.astore 4, 2) := dk_58 4 (dk_at dksJ2_afterNodeAccess_1 13 rfl rfl)
theorem dJ2_afterNodeAccess_38 : decode cJ2_afterNodeAccess 38 = .ok (.aload 4, 2) := dk_25 4 (dk_at dksJ2_afterNodeAccess_1 15 rfl rfl)
theorem dJ2_afterNodeAccess_40 : decode cJ2_afterNodeAccess 40 = .ok (.getfield 19, 3) := dk_180 0 19 (dk_at dksJ2_afterNodeAccess_1 17 rfl rfl)
theorem dJ2_afterNodeAccess_43 : decode cJ2_afterNodeAccess 43 = .ok (.astore 5, 2) := dk_58 5 (dk_at dksJ2_afterNodeAccess_1 20 rfl rfl)
theorem dJ2_afterNodeAccess_45 : decode cJ2_afterNodeAccess 45 = .ok (.aload 4, 2) := dk_25 4 (dk_at dksJ2_afterNodeAccess_1 22 rfl rfl)
theorem dJ2_afterNodeAccess_47 : decode cJ2_afterNodeAccess 47 = .ok (.getfield 14, 3) := dk_180 0 14 (dk_at dksJ2_afterNodeAccess_2 0 rfl rfl)
theorem dJ2_afterNodeAccess_50 : decode cJ2_afterNodeAccess 50 = .ok (.astore 6, 2) := dk_58 6 (dk_at dksJ2_afterNodeAccess_2 3 rfl rfl)
theorem dJ2_afterNodeAccess_52 : decode cJ2_afterNodeAccess 52 = .ok (.aload 4, 2) := dk_25 4 (dk_at dksJ2_afterNodeAccess_2 5 rfl rfl)
theorem dJ2_afterNodeAccess_54 : decode cJ2_afterNodeAccess 54 = .ok (.aconst_null, 1) := dk_1 (dk_at dksJ2_afterNodeAccess_2 7 rfl rfl)
theorem dJ2_afterNodeAccess_55 : decode cJ2_afterNodeAccess 55 = .ok (.putfield 14, 3) := dk_181 0 14 (dk_at dksJ2_afterNodeAccess_2 8 rfl rfl)
theorem dJ2_afterNodeAccess_58 : decode cJ2_afterNodeAccess 58 = .ok (.aload 5, 2) := dk_25 5 (dk_at dksJ2_afterNodeAccess_2 11 rfl rfl)
theorem dJ2_afterNodeAccess_60 : decode cJ2_afterNodeAccess 60 = .ok (.ifnonnull 12, 3) := dk_199 0 12 (dk_at dksJ2_afterNodeAccess_2 13 rfl rfl)
theorem dJ2_afterNodeAccess_63 : decode cJ2_afterNodeAccess 63 = .ok (.aload_n 0, 1) := dk_42 (dk_at dksJ2_afterNodeAccess_2 16 rfl rfl)
theorem dJ2_afterNodeAccess_64 : decode cJ2_afterNodeAccess 64 = .ok (.aload 6, 2) := dk_25 6 (dk_at dksJ2_afterNodeAccess_2 17 rfl rfl)
theorem dJ2_afterNodeAccess_66 : decode cJ2_afterNodeAccess 66 = .ok (.putfield 7, 3) := dk_181 0 7 (dk_at dksJ2_afterNodeAccess_2 19 rfl rfl)
theorem dJ2_afterNodeAccess_69 : decode cJ2_afterNodeAccess 69 = .ok (.goto 10, 3) := dk_167 0 10 (dk_at dksJ2_afterNodeAccess_3 0 rfl rfl)
theorem dJ2_afterNodeAccess_72 : decode cJ2_afterNodeAccess 72 = .ok (.aload 5, 2) := dk_25 5 (dk_at dksJ2_afterNodeAccess_3 3 rfl rfl)
theorem dJ2_afterNodeAccess_74 : decode cJ2_afterNodeAccess 74 = .ok (.aload 6, 2) := dk_25 6 (dk_at dksJ2_afterNodeAccess_3 5 rfl rfl)
theorem dJ2_afterNodeAccess_76 : decode cJ2_afterNodeAccess 76 = .ok (.putfield 14, 3) := dk_181 0 14 (dk_at dksJ2_afterNodeAccess_3 7 rfl rfl)
theorem dJ2_afterNodeAccess_79 : decode cJ2_afterNodeAccess 79 = .ok (.aload 6, 2) := dk_25 6 (dk_at dksJ2_afterNodeAccess_3 10 rfl rfl)
theorem dJ2_afterNodeAccess_81 : decode cJ2_afterNodeAccess 81 = .ok (.ifnull 13, 3) := dk_198 0 13 (dk_at dksJ2_afterNodeAccess_3 12 rfl rfl)
theorem dJ2_afterNodeAccess_84 : decode cJ2_afterNodeAccess 84 = .ok (.aload 6, 2) := dk_25 6 (dk_at dksJ2_afterNodeAccess_3 15 rfl rfl)
theorem dJ2_afterNodeAccess_86 : decode cJ2_afterNodeAccess 86 = .ok (.aload 5, 2) := dk_25 5 (dk_at dksJ2_afterNodeAccess_3 17 rfl rfl)
theorem dJ2_afterNodeAccess_88 : decode cJ2_afterNodeAccess 88 = .ok (.putfield 19, 3) := dk_181 0 19 (dk_at dksJ2_afterNodeAccess_3 19 rfl rfl)
theorem dJ2_afterNodeAccess_91 : decode cJ2_afterNodeAccess 91 = .ok (.goto 6, 3) := dk_167 0 6 (dk_at dksJ2_afterNodeAccess_4 0 rfl rfl)
theorem dJ2_afterNodeAccess_94 : decode cJ2_afterNodeAccess 94 = .ok (.aload 5, 2) := dk_25 5 (dk_at dksJ2_afterNodeAccess_4 3 rfl rfl)
theorem dJ2_afterNodeAccess_96 : decode cJ2_afterNodeAccess 96 = .ok (.astore_n 2, 1) := dk_77 (dk_at dksJ2_afterNodeAccess_4 5 rfl rfl)
theorem dJ2_afterNodeAccess_97 : decode cJ2_afterNodeAccess 97 = .ok (.aload_n 2, 1) := dk_44 (dk_at dksJ2_afterNodeAccess_4 6 rfl rfl)
theorem dJ2_afterNodeAccess_98 : decode cJ2_afterNodeAccess 98 = .ok (.ifnonnull 12, 3) := dk_199 0 12 (dk_at dksJ2_afterNodeAccess_4 7 rfl rfl)
theorem dJ2_afterNodeAccess_101 : decode cJ2_afterNodeAccess 101 = .ok (.aload_n 0, 1) := dk_42 (dk_at dksJ2_afterNodeAccess_4 10 rfl rfl)
theorem dJ2_afterNodeAccess_102 : decode cJ2_afterNodeAccess 102 = .ok (.aload 4, 2) := dk_25 4 (dk_at dksJ2_afterNodeAccess_4 11 rfl rfl)
theorem dJ2_afterNodeAccess_104 : decode cJ2_afterNodeAccess 104 = .ok (.putfield 7, 3) := dk_181 0 7 (dk_at dksJ2_afterNodeAccess_4 13 rfl rfl)
theorem dJ2_afterNodeAccess_107 : decode cJ2_afterNodeAccess 107 = .ok (.goto 15, 3) := dk_167 0 15 (dk_at dksJ2_afterNodeAccess_4 16 rfl rfl)
theorem dJ2_afterNodeAccess_110 : decode cJ2_afterNodeAccess 110 = .ok (.aload 4, 2) := dk_25 4 (dk_at dksJ2_afterNodeAccess_4 19 rfl rfl)
theorem dJ2_afterNodeAccess_112 : decode cJ2_afterNodeAccess 112 = .ok (.aload_n 2, 1) := dk_44 (dk_at dksJ2_afterNodeAccess_4 21 rfl rfl)
theorem dJ2_afterNodeAccess_113 : decode cJ2_afterNodeAccess 113 = .ok (.putfield 19, 3) := dk_181 0 19 (dk_at dksJ2_afterNodeAccess_5 0 rfl rfl)
theorem dJ2_afterNodeAccess_116 : decode cJ2_afterNodeAccess 116 = .ok (.aload_n 2, 1) := dk_44 (dk_at dksJ2_afterNodeAccess_5 3 rfl rfl)
theorem dJ2_afterNodeAccess_117 : decode cJ2_afterNodeAccess 117 = .ok (.aload 4, 2) := dk_25 4 (dk_at dksJ2_afterNodeAccess_5 4 rfl rfl)
theorem dJ2_afterNodeAccess_119 : decode cJ2_afterNodeAccess 119 = .ok (.putfield 14, 3) := dk_181 0 14 (dk_at dksJ2_afterNodeAccess_5 6 rfl rfl)
theorem dJ2_afterNodeAccess_122 : decode cJ2_afterNodeAccess 122 = .ok (.aload_n 0, 1) := dk_42 (dk_at dksJ2_afterNodeAccess_5 9 rfl rfl)
theorem dJ2_afterNodeAccess_123 : decode cJ2_afterNodeAccess 123 = .ok (.aload 4, 2) := dk_25 4 (dk_at dksJ2_afterNodeAccess_5 10 rfl rfl)
theorem dJ2_afterNodeAccess_125 : decode cJ2_afterNodeAccess 125 = .ok (.putfield 11, 3) := dk_181 0 11 (dk_at dksJ2_afterNodeAccess_5 12 rfl rfl)
theorem dJ2_afterNodeAccess_128 : decode cJ2_afterNodeAccess 128 = .ok (.aload_n 0, 1) := dk_42 (dk_at dksJ2_afterNodeAccess_5 15 rfl rfl)
theorem dJ2_afterNodeAccess_129 : decode cJ2_afterNodeAccess 129 = .ok (.dup, 1) := dk_89 (dk_at dksJ2_afterNodeAccess_5 16 rfl rfl)
theorem dJ2_afterNodeAccess_130 : decode cJ2_afterNodeAccess 130 = .ok (.getfield 68, 3) := dk_180 0 68 (dk_at dksJ2_afterNodeAccess_5 17 rfl rfl)
theorem dJ2_afterNodeAccess_133 : decode cJ2_afterNodeAccess 133 = .ok (.iconst 1, 1) := dk_4 (dk_at dksJ2_afterNodeAccess_5 20 rfl rfl)
theorem dJ2_afterNodeAccess_134 : decode cJ2_afterNodeAccess 134 = .ok (.iadd, 1) := dk_96 (dk_at dksJ2_afterNodeAccess_5 21 rfl rfl)
theorem dJ2_afterNodeAccess_135 : decode cJ2_afterNodeAccess 135 = .ok (.putfield 68, 3) := dk_181 0 68 (dk_at dksJ2_afterNodeAccess_6 0 rfl rfl)
theorem dJ2_afterNodeAccess_138 : decode cJ2_afterNodeAccess 138 = .ok (.goto 127, 3) := dk_167 0 127 (dk_at dksJ2_afterNodeAccess_6 3 rfl rfl)
theorem dJ2_afterNodeAccess_141 : decode cJ2_afterNodeAccess 141 = .ok (.aload_n 0, 1) := dk_42 (dk_at dksJ2_afterNodeAccess_6 6 rfl rfl)
theorem dJ2_afterNodeAccess_142 : decode cJ2_afterNodeAccess 142 = .ok (.getfield 1, 3) := dk_180 0 1 (dk_at dksJ2_afterNodeAccess_6 7 rfl rfl)
theorem dJ2_afterNodeAccess_145 : decode cJ2_afterNodeAccess 145 = .ok (.iconst 1, 1) := dk_4 (dk_at dksJ2_afterNodeAccess_6 10 rfl rfl)
theorem dJ2_afterNodeAccess_146 : decode cJ2_afterNodeAccess 146 = .ok (.if_icmp .ne 119, 3) := dk_160 0 119 (dk_at dksJ2_afterNodeAccess_6 11 rfl rfl)
theorem dJ2_afterNodeAccess_149 : decode cJ2_afterNodeAccess 149 = .ok (.aload_n 0, 1) := dk_42 (dk_at dksJ2_afterNodeAccess_6 14 rfl rfl)
theorem dJ2_afterNodeAccess_150 : decode cJ2_afterNodeAccess 150 = .ok (.getfield 7, 3) := dk_180 0 7 (dk_at dksJ2_afterNodeAccess_6 15 rfl rfl)
theorem dJ2_afterNodeAccess_153 : decode cJ2_afterNodeAccess 153 = .ok (.dup, 1) := dk_89 (dk_at dksJ2_afterNodeAccess_6 18 rfl rfl)
theorem dJ2_afterNodeAccess_154 : decode cJ2_afterNodeAccess 154 = .ok (.astore_n 3, 1) := dk_78 (dk_at dksJ2_afterNodeAccess_6 19 rfl rfl)
theorem dJ2_afterNodeAccess_155 : decode cJ2_afterNodeAccess 155 = .ok (.aload_n 1, 1) := dk_43 (dk_at dksJ2_afterNodeAccess_6 20 rfl rfl)
theorem dJ2_afterNodeAccess_156 : decode cJ2_afterNodeAccess 156 = .ok (.if_acmp .eq 109, 3) := dk_165 0 109 (dk_at dksJ2_afterNodeAccess_6 21 rfl rfl)
theorem dJ2_afterNodeAccess_159 : decode cJ2_afterNodeAccess 159 = .ok (.aload_n 1, 1) := dk_43 (dk_at dksJ2_afterNodeAccess_7 0 rfl rfl)
theorem dJ2_afterNodeAccess_160 : decode cJ2_afterNodeAccess 160 = .ok (.checkcast 15, 3) := dk_192 0 15 (dk_at dksJ2_afterNodeAccess_7 1 rfl rfl)
theorem dJ2_afterNodeAccess_163 : decode cJ2_afterNodeAccess 163 = .ok (.astore 4, 2) := dk_58 4 (dk_at dksJ2_afterNodeAccess_7 4 rfl rfl)
theorem dJ2_afterNodeAccess_165 : decode cJ2_afterNodeAccess 165 = .ok (.aload 4, 2) := dk_25 4 (dk_at dksJ2_afterNodeAccess_7 6 rfl rfl)
theorem dJ2_afterNodeAccess_167 : decode cJ2_afterNodeAccess 167 = .ok (.getfield 19, 3) := dk_180 0 19 (dk_at dksJ2_afterNodeAccess_7 8 rfl rfl)
theorem dJ2_afterNodeAccess_170 : decode cJ2_afterNodeAccess 170 = .ok (.astore 5, 2) := dk_58 5 (dk_at dksJ2_afterNodeAccess_7 11 rfl rfl)
theorem dJ2_afterNodeAccess_172 : decode cJ2_afterNodeAccess 172 = .ok (.aload 4, 2) := dk_25 4 (dk_at dksJ2_afterNodeAccess_7 13 rfl rfl)
theorem dJ2_afterNodeAccess_174 : decode cJ2_afterNodeAccess 174 = .ok (.getfield 14, 3) := dk_180 0 14 (dk_at dksJ2_afterNodeAccess_7 15 rfl rfl)
theorem dJ2_afterNodeAccess_177 : decode cJ2_afterNodeAccess 177 = .ok (.astore 6, 2) := dk_58 6 (dk_at dksJ2_afterNodeAccess_7 18 rfl rfl)
theorem dJ2_afterNodeAccess_179 : decode cJ2_afterNodeAccess 179 = .ok (.aload 4, 2) := dk_25 4 (dk_at dksJ2_afterNodeAccess_7 20 rfl rfl)
theorem dJ2_afterNodeAccess_181 : decode cJ2_afterNodeAccess 181 = .ok (.aconst_null, 1) := dk_1 (dk_at dksJ2_afterNodeAccess_7 22 rfl rfl)
theorem dJ2_afterNodeAccess_182 : decode cJ2_afterNodeAccess 182 = .ok (.putfield 19, 3) := dk_181 0 19 (dk_at dksJ2_afterNodeAccess_8 0 rfl rfl)
theorem dJ2_afterNodeAccess_185 : decode cJ2_afterNodeAccess 185 = .ok (.aload 6, 2) := dk_25 6 (dk_at dksJ2_afterNodeAccess_8 3 rfl rfl)
theorem dJ2_afterNodeAccess_187 : decode cJ2_afterNodeAccess 187 = .ok (.ifnonnull 12, 3) := dk_199 0 12 (dk_at dksJ2_afterNodeAccess_8 5 rfl rfl)
theorem dJ2_afterNodeAccess_190 : decode cJ2_afterNodeAccess 190 = .ok (.aload_n 0, 1) := dk_42 (dk_at dksJ2_afterNodeAccess_8 8 rfl rfl)
theorem dJ2_afterNodeAccess_191 : decode cJ2_afterNodeAccess 191 = .ok (.aload 5, 2) := dk_25 5 (dk_at dksJ2_afterNodeAccess_8 9 rfl rfl)
theorem dJ2_afterNodeAccess_193 : decode cJ2_afterNodeAccess 193 = .ok (.putfield 11, 3) := dk_181 0 11 (dk_at dksJ2_afterNodeAccess_8 11 rfl rfl)
theorem dJ2_afterNodeAccess_196 : decode cJ2_afterNodeAccess 196 = .ok (.goto 10, 3) := dk_167 0 10 (dk_at dksJ2_afterNodeAccess_8 14 rfl rfl)
theorem dJ2_afterNodeAccess_199 : decode cJ2_afterNodeAccess 199 = .ok (.aload 6, 2) := dk_25 6 (dk_at dksJ2_afterNodeAccess_8 17 rfl rfl)
theorem dJ2_afterNodeAccess_201 : decode cJ2_afterNodeAccess 201 = .ok (.aload 5, 2) := dk_25 5 (dk_at dksJ2_afterNodeAccess_8 19 rfl rfl)
theorem dJ2_afterNodeAccess_203 : decode cJ2_afterNodeAccess 203 = .ok (.putfield 19, 3) := dk_181 0 19 (dk_at dksJ2_afterNodeAccess_8 21 rfl rfl)
theorem dJ2_afterNodeAccess_206 : decode cJ2_afterNodeAccess 206 = .ok (.aload 5, 2) := dk_25 5 (dk_at dksJ2_afterNodeAccess_9 0 rfl rfl)
theorem dJ2_afterNodeAccess_208 : decode cJ2_afterNodeAccess 208 = .ok (.ifnull 13, 3) := dk_198 0 13 (dk_at dksJ2_afterNodeAccess_9 2 rfl rfl)
theorem dJ2_afterNodeAccess_211 : decode cJ2_afterNodeAccess 211 = .ok (.aload 5, 2) := dk_25 5 (dk_at dksJ2_afterNodeAccess_9 5 rfl rfl)
theorem dJ2_afterNodeAccess_213 : decode cJ2_afterNodeAccess 213 = .ok (.aload 6, 2) := dk_25 6 (dk_at dksJ2_afterNodeAccess_9 7 rfl rfl)
theorem dJ2_afterNodeAccess_215 : decode cJ2_afterNodeAccess 215 = .ok (.putfield 14, 3) := dk_181 0 14 (dk_at dksJ2_afterNodeAccess_9 9 rfl rfl)
theorem dJ2_afterNodeAccess_218 : decode cJ2_afterNodeAccess 218 = .ok (.goto 6, 3) := dk_167 0 6 (dk_at dksJ2_afterNodeAccess_9 12 rfl rfl)
theorem dJ2_afterNodeAccess_221 : decode cJ2_afterNodeAccess 221 = .ok (.aload 6, 2) := dk_25 6 (dk_at dksJ2_afterNodeAccess_9 15 rfl rfl)
theorem dJ2_afterNodeAccess_223 : decode cJ2_afterNodeAccess 223 = .ok (.astore_n 3, 1) := dk_78 (dk_at dksJ2_afterNodeAccess_9 17 rfl rfl)
theorem dJ2_afterNodeAccess_224 : decode cJ2_afterNodeAccess 224 = .ok (.aload_n 3, 1) := dk_45 (dk_at dksJ2_afterNodeAccess_9 18 rfl rfl)
theorem dJ2_afterNodeAccess_225 : decode cJ2_afterNodeAccess 225 = .ok (.ifnonnull 12, 3) := dk_199 0 12 (dk_at dksJ2_afterNodeAccess_9 19 rfl rfl)
theorem dJ2_afterNodeAccess_228 : decode cJ2_afterNodeAccess 228 = .ok (.aload_n 0, 1) := dk_42 (dk_at dksJ2_afterNodeAccess_9 22 rfl rfl)
theorem dJ2_afterNodeAccess_229 : decode cJ2_afterNodeAccess 229 = .ok (.aload 4, 2) := dk_25 4 (dk_at dksJ2_afterNodeAccess_10 0 rfl rfl)
theorem dJ2_afterNodeAccess_231 : decode cJ2_afterNodeAccess 231 = .ok (.putfield 11, 3) := dk_181 0 11 (dk_at dksJ2_afterNodeAccess_10 2 rfl rfl)
theorem dJ2_afterNodeAccess_234 : decode cJ2_afterNodeAccess 234 = .ok (.goto 15, 3) := dk_167 0 15 (dk_at dksJ2_afterNodeAccess_10 5 rfl rfl)
theorem dJ2_afterNodeAccess_237 : decode cJ2_afterNodeAccess 237 = .ok (.aload 4, 2) := dk_25 4 (dk_at dksJ2_afterNodeAccess_10 8 rfl rfl)
theorem dJ2_afterNodeAccess_239 : decode cJ2_afterNodeAccess 239 = .ok (.aload_n 3, 1) := dk_45 (dk_at dksJ2_afterNodeAccess_10 10 rfl rfl)
theorem dJ2_afterNodeAccess_240 : decode cJ2_afterNodeAccess 240 = .ok (.putfield 14, 3) := dk_181 0 14 (dk_at dksJ2_afterNodeAccess_10 11 rfl rfl)
theorem dJ2_afterNodeAccess_243 : decode cJ2_afterNodeAccess 243 = .ok (.aload_n 3, 1) := dk_45 (dk_at dksJ2_afterNodeAccess_10 14 rfl rfl)
theorem dJ2_afterNodeAccess_244 : decode cJ2_afterNodeAccess 244 = .ok (.aload 4, 2) := dk_25 4 (dk_at dksJ2_afterNodeAccess_10 15 rfl rfl)
theorem dJ2_afterNodeAccess_246 : decode cJ2_afterNodeAccess 246 = .ok (.putfield 19, 3) := dk_181 0 19 (dk_at dksJ2_afterNodeAccess_10 17 rfl rfl)
theorem dJ2_afterNodeAccess_249 : decode cJ2_afterNodeAccess 249 = .ok (.aload_n 0, 1) := dk_42 (dk_at dksJ2_afterNodeAccess_10 20 rfl rfl)
theorem dJ2_afterNodeAccess_250 : decode cJ2_afterNodeAccess 250 = .ok (.aload 4, 2) := dk_25 4 (dk_at dksJ2_afterNodeAccess_10 21 rfl rfl)
theorem dJ2_afterNodeAccess_252 : decode cJ2_afterNodeAccess 252 = .ok (.putfield 7, 3) := dk_181 0 7 (dk_at dksJ2_afterNodeAccess_11 0 rfl rfl)
theorem dJ2_afterNodeAccess_255 : decode cJ2_afterNodeAccess 255 = .ok (.aload_n 0, 1) := dk_42 (dk_at dksJ2_afterNodeAccess_11 3 rfl rfl)
theorem dJ2_afterNodeAccess_256 : decode cJ2_afterNodeAccess 256 = .ok (.dup, 1) := dk_89 (dk_at dksJ2_afterNodeAccess_11 4 rfl rfl)
theorem dJ2_afterNodeAccess_257 : decode cJ2_afterNodeAccess 257 = .ok (.getfield 68, 3) := dk_180 0 68 (dk_at dksJ2_afterNodeAccess_11 5 rfl rfl)
theorem dJ2_afterNodeAccess_260 : decode cJ2_afterNodeAccess 260 = .ok (.iconst 1, 1) := dk_4 (dk_at dksJ2_afterNodeAccess_11 8 rfl rfl)
theorem dJ2_afterNodeAccess_261 : decode cJ2_afterNodeAccess 261 = .ok (.iadd, 1) := dk_96 (dk_at dksJ2_afterNodeAccess_11 9 rfl rfl)
theorem dJ2_afterNodeAccess_262 : decode cJ2_afterNodeAccess 262 = .ok (.putfield 68, 3) := dk_181 0 68 (dk_at dksJ2_afterNodeAccess_11 10 rfl rfl)
theorem dJ2_afterNodeAccess_265 : decode cJ2_afterNodeAccess 265 = .ok (.return_, 1) := dk_177 (dk_at dksJ2_afterNodeAccess_11 13 rfl rfl)
/-! java/util/LinkedHashMap.afterNodeAccess(Ljava/util/HashMap$Node;)V -/
abbrev M_J2_afterNodeAccess (z0 n0 : Nat) (s' : gS) : gM := (RJ2, cJ2_afterNodeAccess, 7, none, "afterNodeAccess", [], 1, z0, n0, s'.2.1, s'.2.2)
abbrev W_J2_afterNodeAccess (E : gE) (z0 n0 : Nat) (r : Unit) (s' : gS) (pc : Nat) (L : List (Nat × gV)) (st : List gV) (s : gS) : Prop := gW E (M_J2_afterNodeAccess z0 n0 s') (gQm E (M_J2_afterNodeAccess z0 n0 s') (.inl none) s') pc L st s
noncomputable def f_J2_afterNodeAccess_265 (κ : gK) (F : Nat)   (s : gS) : Option (Unit × gS) :=
  some ((), s)
set_option maxHeartbeats 4000000 in
theorem w_J2_afterNodeAccess_265 {E : gE} {F z0 n0 : Nat} {r : Unit} {s' : gS}   : ∀   (s : gS), f_J2_afterNodeAccess_265 (gk E) F   s = some (r, s') → W_J2_afterNodeAccess E z0 n0 r s' 265 [] [] s := by
  intro  s hB
  unfold f_J2_afterNodeAccess_265 at hB
  obtain ⟨rfl, rfl⟩ := Prod.mk.inj (Option.some.inj hB)
  exact gw_vret rfl rfl rfl dJ2_afterNodeAccess_265
noncomputable def f_J2_afterNodeAccess_122 (κ : gK) (F : Nat)  (l0 : Option Nat) (l4 : Option Nat) (s : gS) : Option (Unit × gS) :=
  gB1 (gpf κ s l0 10 9 (va_rf l4)) fun s1 =>
  gB1 (gfI s1 l0 10 3) fun v2 =>
  gB1 (gpf κ s1 l0 10 3 (.int (v2 + (1 : Int32)))) fun s3 =>
  f_J2_afterNodeAccess_265 κ F  s3
set_option maxHeartbeats 4000000 in
theorem w_J2_afterNodeAccess_122 {E : gE} {F z0 n0 : Nat} {r : Unit} {s' : gS}   : ∀ (l0 : Option Nat) (l4 : Option Nat)  (s : gS), f_J2_afterNodeAccess_122 (gk E) F  l0 l4 s = some (r, s') → W_J2_afterNodeAccess E z0 n0 r s' 122 [(0, vR l0), (4, vR l4)] [] s := by
  intro l0 l4 s hB
  unfold f_J2_afterNodeAccess_122 at hB
  refine gw_aload_n 0 rfl dJ2_afterNodeAccess_122 ?_
  refine gw_aload 1 rfl dJ2_afterNodeAccess_123 ?_
  obtain ⟨s1, hs1, hB⟩ := gB1_some hB
  refine gw_putf (C := RJ2) (T := TJ2) (N := 12) (k := 9) tyJ2 tyJ2_ok nmJ2 gcl10 (by decide) in_J2 q232 rfl (tyJ2_ok 9 (by decide)) (gNF_o _ _) hs1 dJ2_afterNodeAccess_125 ?_
  refine gw_aload_n 0 rfl dJ2_afterNodeAccess_128 ?_
  refine gw_dup rfl dJ2_afterNodeAccess_129 ?_
  obtain ⟨v2, hv2, hB⟩ := gB1_some hB
  refine gw_getfS (C := RJ2) (T := TJ2) (N := 12) (k := 3) gcl10 (by decide) in_J2 q242 q241 (gfI_spec hv2) dJ2_afterNodeAccess_130 ?_
  refine gw_iconst (v := (1 : Int32)) (by decide) dJ2_afterNodeAccess_133 ?_
  refine gw_iadd dJ2_afterNodeAccess_134 ?_
  obtain ⟨s3, hs3, hB⟩ := gB1_some hB
  refine gw_putfS (C := RJ2) (T := TJ2) (N := 12) (k := 3) tyJ2 tyJ2_ok nmJ2 gcl10 (by decide) in_J2 q242 q241 rfl (tyJ2_ok 3 (by decide)) (gNF_i _) hs3 dJ2_afterNodeAccess_135 ?_
  refine gw_goto (tgt := 265) dJ2_afterNodeAccess_138 (by decide) ?_
  exact gw_sub [] rfl (w_J2_afterNodeAccess_265   _ hB)
noncomputable def f_J2_afterNodeAccess_97 (κ : gK) (F : Nat)  (l0 : Option Nat) (l2 : Option Nat) (l4 : Option Nat) (s : gS) : Option (Unit × gS) :=
  if l2 = none then
    gB1 (gpf κ s l0 10 8 (va_rf l4)) fun s3 =>
    f_J2_afterNodeAccess_122 κ F  l0 l4 s3
  else
    gB1 (gpf κ s l4 11 4 (va_rf l2)) fun s1 =>
    gB1 (gpf κ s1 l2 11 5 (va_rf l4)) fun s2 =>
    f_J2_afterNodeAccess_122 κ F  l0 l4 s2
set_option maxHeartbeats 4000000 in
theorem w_J2_afterNodeAccess_97 {E : gE} {F z0 n0 : Nat} {r : Unit} {s' : gS}   : ∀ (l0 : Option Nat) (l2 : Option Nat) (l4 : Option Nat)  (s : gS), f_J2_afterNodeAccess_97 (gk E) F  l0 l2 l4 s = some (r, s') → W_J2_afterNodeAccess E z0 n0 r s' 97 [(0, vR l0), (2, vR l2), (4, vR l4)] [] s := by
  intro l0 l2 l4 s hB
  unfold f_J2_afterNodeAccess_97 at hB
  refine gw_aload_n 1 rfl dJ2_afterNodeAccess_97 ?_
  refine gw_ifnonnull (tgt := 110) dJ2_afterNodeAccess_98 (by decide) (fun hcnd => ?_) (fun hcnd => ?_)
  · rw [if_neg hcnd] at hB
    refine gw_aload 2 rfl dJ2_afterNodeAccess_110 ?_
    refine gw_aload_n 1 rfl dJ2_afterNodeAccess_112 ?_
    obtain ⟨s1, hs1, hB⟩ := gB1_some hB
    refine gw_putf (C := RJ19) (T := TJ19) (N := 6) (k := 4) tyJ19 tyJ19_ok nmJ19 gcl11 (by decide) in_J19 q794 rfl (tyJ19_ok 4 (by decide)) (gNF_o _ _) hs1 dJ2_afterNodeAccess_113 ?_
    refine gw_aload_n 1 rfl dJ2_afterNodeAccess_116 ?_
    refine gw_aload 2 rfl dJ2_afterNodeAccess_117 ?_
    obtain ⟨s2, hs2, hB⟩ := gB1_some hB
    refine gw_putf (C := RJ19) (T := TJ19) (N := 6) (k := 5) tyJ19 tyJ19_ok nmJ19 gcl11 (by decide) in_J19 q796 rfl (tyJ19_ok 5 (by decide)) (gNF_o _ _) hs2 dJ2_afterNodeAccess_119 ?_
    exact gw_sub [0, 2] rfl (w_J2_afterNodeAccess_122  _ _ _ hB)
  · rw [if_pos hcnd] at hB
    refine gw_aload_n 0 rfl dJ2_afterNodeAccess_101 ?_
    refine gw_aload 2 rfl dJ2_afterNodeAccess_102 ?_
    obtain ⟨s3, hs3, hB⟩ := gB1_some hB
    refine gw_putf (C := RJ2) (T := TJ2) (N := 12) (k := 8) tyJ2 tyJ2_ok nmJ2 gcl10 (by decide) in_J2 q229 rfl (tyJ2_ok 8 (by decide)) (gNF_o _ _) hs3 dJ2_afterNodeAccess_104 ?_
    refine gw_goto (tgt := 122) dJ2_afterNodeAccess_107 (by decide) ?_
    exact gw_sub [0, 2] rfl (w_J2_afterNodeAccess_122  _ _ _ hB)
noncomputable def f_J2_afterNodeAccess_79 (κ : gK) (F : Nat)  (l0 : Option Nat) (l2 : Option Nat) (l4 : Option Nat) (l5 : Option Nat) (l6 : Option Nat) (s : gS) : Option (Unit × gS) :=
  if l6 = none then
    f_J2_afterNodeAccess_97 κ F  l0 l5 l4 s
  else
    gB1 (gpf κ s l6 11 4 (va_rf l5)) fun s1 =>
    f_J2_afterNodeAccess_97 κ F  l0 l2 l4 s1
set_option maxHeartbeats 4000000 in
theorem w_J2_afterNodeAccess_79 {E : gE} {F z0 n0 : Nat} {r : Unit} {s' : gS}   : ∀ (l0 : Option Nat) (l2 : Option Nat) (l4 : Option Nat) (l5 : Option Nat) (l6 : Option Nat)  (s : gS), f_J2_afterNodeAccess_79 (gk E) F  l0 l2 l4 l5 l6 s = some (r, s') → W_J2_afterNodeAccess E z0 n0 r s' 79 [(0, vR l0), (2, vR l2), (4, vR l4), (5, vR l5), (6, vR l6)] [] s := by
  intro l0 l2 l4 l5 l6 s hB
  unfold f_J2_afterNodeAccess_79 at hB
  refine gw_aload 4 rfl dJ2_afterNodeAccess_79 ?_
  refine gw_ifnull (tgt := 94) dJ2_afterNodeAccess_81 (by decide) (fun hcnd => ?_) (fun hcnd => ?_)
  · rw [if_pos hcnd] at hB
    refine gw_aload 3 rfl dJ2_afterNodeAccess_94 ?_
    refine gw_astore_n (L' := [(2, vR l5), (0, vR l0), (4, vR l4), (5, vR l5), (6, vR l6)]) (Nat.le_of_ble_eq_true rfl) rfl dJ2_afterNodeAccess_96 ?_
    exact gw_sub [1, 0, 2] rfl (w_J2_afterNodeAccess_97  _ _ _ _ hB)
  · rw [if_neg hcnd] at hB
    refine gw_aload 4 rfl dJ2_afterNodeAccess_84 ?_
    refine gw_aload 3 rfl dJ2_afterNodeAccess_86 ?_
    obtain ⟨s1, hs1, hB⟩ := gB1_some hB
    refine gw_putf (C := RJ19) (T := TJ19) (N := 6) (k := 4) tyJ19 tyJ19_ok nmJ19 gcl11 (by decide) in_J19 q794 rfl (tyJ19_ok 4 (by decide)) (gNF_o _ _) hs1 dJ2_afterNodeAccess_88 ?_
    refine gw_goto (tgt := 97) dJ2_afterNodeAccess_91 (by decide) ?_
    exact gw_sub [0, 1, 2] rfl (w_J2_afterNodeAccess_97  _ _ _ _ hB)
noncomputable def f_J2_afterNodeAccess_249 (κ : gK) (F : Nat)  (l0 : Option Nat) (l4 : Option Nat) (s : gS) : Option (Unit × gS) :=
  gB1 (gpf κ s l0 10 8 (va_rf l4)) fun s1 =>
  gB1 (gfI s1 l0 10 3) fun v2 =>
  gB1 (gpf κ s1 l0 10 3 (.int (v2 + (1 : Int32)))) fun s3 =>
  f_J2_afterNodeAccess_265 κ F  s3
set_option maxHeartbeats 4000000 in
theorem w_J2_afterNodeAccess_249 {E : gE} {F z0 n0 : Nat} {r : Unit} {s' : gS}   : ∀ (l0 : Option Nat) (l4 : Option Nat)  (s : gS), f_J2_afterNodeAccess_249 (gk E) F  l0 l4 s = some (r, s') → W_J2_afterNodeAccess E z0 n0 r s' 249 [(0, vR l0), (4, vR l4)] [] s := by
  intro l0 l4 s hB
  unfold f_J2_afterNodeAccess_249 at hB
  refine gw_aload_n 0 rfl dJ2_afterNodeAccess_249 ?_
  refine gw_aload 1 rfl dJ2_afterNodeAccess_250 ?_
  obtain ⟨s1, hs1, hB⟩ := gB1_some hB
  refine gw_putf (C := RJ2) (T := TJ2) (N := 12) (k := 8) tyJ2 tyJ2_ok nmJ2 gcl10 (by decide) in_J2 q229 rfl (tyJ2_ok 8 (by decide)) (gNF_o _ _) hs1 dJ2_afterNodeAccess_252 ?_
  refine gw_aload_n 0 rfl dJ2_afterNodeAccess_255 ?_
  refine gw_dup rfl dJ2_afterNodeAccess_256 ?_
  obtain ⟨v2, hv2, hB⟩ := gB1_some hB
  refine gw_getfS (C := RJ2) (T := TJ2) (N := 12) (k := 3) gcl10 (by decide) in_J2 q242 q241 (gfI_spec hv2) dJ2_afterNodeAccess_257 ?_
  refine gw_iconst (v := (1 : Int32)) (by decide) dJ2_afterNodeAccess_260 ?_
  refine gw_iadd dJ2_afterNodeAccess_261 ?_
  obtain ⟨s3, hs3, hB⟩ := gB1_some hB
  refine gw_putfS (C := RJ2) (T := TJ2) (N := 12) (k := 3) tyJ2 tyJ2_ok nmJ2 gcl10 (by decide) in_J2 q242 q241 rfl (tyJ2_ok 3 (by decide)) (gNF_i _) hs3 dJ2_afterNodeAccess_262 ?_
  exact gw_sub [] rfl (w_J2_afterNodeAccess_265   _ hB)
noncomputable def f_J2_afterNodeAccess_224 (κ : gK) (F : Nat)  (l0 : Option Nat) (l3 : Option Nat) (l4 : Option Nat) (s : gS) : Option (Unit × gS) :=
  if l3 = none then
    gB1 (gpf κ s l0 10 9 (va_rf l4)) fun s3 =>
    f_J2_afterNodeAccess_249 κ F  l0 l4 s3
  else
    gB1 (gpf κ s l4 11 5 (va_rf l3)) fun s1 =>
    gB1 (gpf κ s1 l3 11 4 (va_rf l4)) fun s2 =>
    f_J2_afterNodeAccess_249 κ F  l0 l4 s2
set_option maxHeartbeats 4000000 in
theorem w_J2_afterNodeAccess_224 {E : gE} {F z0 n0 : Nat} {r : Unit} {s' : gS}   : ∀ (l0 : Option Nat) (l3 : Option Nat) (l4 : Option Nat)  (s : gS), f_J2_afterNodeAccess_224 (gk E) F  l0 l3 l4 s = some (r, s') → W_J2_afterNodeAccess E z0 n0 r s' 224 [(0, vR l0), (3, vR l3), (4, vR l4)] [] s := by
  intro l0 l3 l4 s hB
  unfold f_J2_afterNodeAccess_224 at hB
  refine gw_aload_n 1 rfl dJ2_afterNodeAccess_224 ?_
  refine gw_ifnonnull (tgt := 237) dJ2_afterNodeAccess_225 (by decide) (fun hcnd => ?_) (fun hcnd => ?_)
  · rw [if_neg hcnd] at hB
    refine gw_aload 2 rfl dJ2_afterNodeAccess_237 ?_
    refine gw_aload_n 1 rfl dJ2_afterNodeAccess_239 ?_
    obtain ⟨s1, hs1, hB⟩ := gB1_some hB
    refine gw_putf (C := RJ19) (T := TJ19) (N := 6) (k := 5) tyJ19 tyJ19_ok nmJ19 gcl11 (by decide) in_J19 q796 rfl (tyJ19_ok 5 (by decide)) (gNF_o _ _) hs1 dJ2_afterNodeAccess_240 ?_
    refine gw_aload_n 1 rfl dJ2_afterNodeAccess_243 ?_
    refine gw_aload 2 rfl dJ2_afterNodeAccess_244 ?_
    obtain ⟨s2, hs2, hB⟩ := gB1_some hB
    refine gw_putf (C := RJ19) (T := TJ19) (N := 6) (k := 4) tyJ19 tyJ19_ok nmJ19 gcl11 (by decide) in_J19 q794 rfl (tyJ19_ok 4 (by decide)) (gNF_o _ _) hs2 dJ2_afterNodeAccess_246 ?_
    exact gw_sub [0, 2] rfl (w_J2_afterNodeAccess_249  _ _ _ hB)
  · rw [if_pos hcnd] at hB
    refine gw_aload_n 0 rfl dJ2_afterNodeAccess_228 ?_
    refine gw_aload 2 rfl dJ2_afterNodeAccess_229 ?_
    obtain ⟨s3, hs3, hB⟩ := gB1_some hB
    refine gw_putf (C := RJ2) (T := TJ2) (N := 12) (k := 9) tyJ2 tyJ2_ok nmJ2 gcl10 (by decide) in_J2 q232 rfl (tyJ2_ok 9 (by decide)) (gNF_o _ _) hs3 dJ2_afterNodeAccess_231 ?_
    refine gw_goto (tgt := 249) dJ2_afterNodeAccess_234 (by decide) ?_
    exact gw_sub [0, 2] rfl (w_J2_afterNodeAccess_249  _ _ _ hB)
noncomputable def f_J2_afterNodeAccess_206 (κ : gK) (F : Nat)  (l0 : Option Nat) (l3 : Option Nat) (l4 : Option Nat) (l5 : Option Nat) (l6 : Option Nat) (s : gS) : Option (Unit × gS) :=
  if l5 = none then
    f_J2_afterNodeAccess_224 κ F  l0 l6 l4 s
  else
    gB1 (gpf κ s l5 11 5 (va_rf l6)) fun s1 =>
    f_J2_afterNodeAccess_224 κ F  l0 l3 l4 s1
set_option maxHeartbeats 4000000 in
theorem w_J2_afterNodeAccess_206 {E : gE} {F z0 n0 : Nat} {r : Unit} {s' : gS}   : ∀ (l0 : Option Nat) (l3 : Option Nat) (l4 : Option Nat) (l5 : Option Nat) (l6 : Option Nat)  (s : gS), f_J2_afterNodeAccess_206 (gk E) F  l0 l3 l4 l5 l6 s = some (r, s') → W_J2_afterNodeAccess E z0 n0 r s' 206 [(0, vR l0), (3, vR l3), (4, vR l4), (5, vR l5), (6, vR l6)] [] s := by
  intro l0 l3 l4 l5 l6 s hB
  unfold f_J2_afterNodeAccess_206 at hB
  refine gw_aload 3 rfl dJ2_afterNodeAccess_206 ?_
  refine gw_ifnull (tgt := 221) dJ2_afterNodeAccess_208 (by decide) (fun hcnd => ?_) (fun hcnd => ?_)
  · rw [if_pos hcnd] at hB
    refine gw_aload 4 rfl dJ2_afterNodeAccess_221 ?_
    refine gw_astore_n (L' := [(3, vR l6), (0, vR l0), (4, vR l4), (5, vR l5), (6, vR l6)]) (Nat.le_of_ble_eq_true rfl) rfl dJ2_afterNodeAccess_223 ?_
    exact gw_sub [1, 0, 2] rfl (w_J2_afterNodeAccess_224  _ _ _ _ hB)
  · rw [if_neg hcnd] at hB
    refine gw_aload 3 rfl dJ2_afterNodeAccess_211 ?_
    refine gw_aload 4 rfl dJ2_afterNodeAccess_213 ?_
    obtain ⟨s1, hs1, hB⟩ := gB1_some hB
    refine gw_putf (C := RJ19) (T := TJ19) (N := 6) (k := 5) tyJ19 tyJ19_ok nmJ19 gcl11 (by decide) in_J19 q796 rfl (tyJ19_ok 5 (by decide)) (gNF_o _ _) hs1 dJ2_afterNodeAccess_215 ?_
    refine gw_goto (tgt := 224) dJ2_afterNodeAccess_218 (by decide) ?_
    exact gw_sub [0, 1, 2] rfl (w_J2_afterNodeAccess_224  _ _ _ _ hB)
noncomputable def f_J2_afterNodeAccess_141 (κ : gK) (F : Nat)  (l0 : Option Nat) (l1 : Option Nat) (s : gS) : Option (Unit × gS) :=
  gB1 (gfI s l0 10 11) fun v1 =>
  if v1 = (1 : Int32) then
    gB1 (gfR s l0 10 8) fun v2 =>
    if v2 = l1 then
      f_J2_afterNodeAccess_265 κ F  s
    else
      gB1 (gcc s l1 11) fun _ =>
      gB1 (gfR s l1 11 4) fun v4 =>
      gB1 (gfR s l1 11 5) fun v5 =>
      gB1 (gpf κ s l1 11 4 (va_rf none)) fun s6 =>
      if v5 = none then
        gB1 (gpf κ s6 l0 10 9 (va_rf v4)) fun s8 =>
        f_J2_afterNodeAccess_206 κ F  l0 v2 l1 v4 v5 s8
      else
        gB1 (gpf κ s6 v5 11 4 (va_rf v4)) fun s7 =>
        f_J2_afterNodeAccess_206 κ F  l0 v2 l1 v4 v5 s7
  else
    f_J2_afterNodeAccess_265 κ F  s
set_option maxHeartbeats 4000000 in
theorem w_J2_afterNodeAccess_141 {E : gE} {F z0 n0 : Nat} {r : Unit} {s' : gS}   : ∀ (l0 : Option Nat) (l1 : Option Nat)  (s : gS), f_J2_afterNodeAccess_141 (gk E) F  l0 l1 s = some (r, s') → W_J2_afterNodeAccess E z0 n0 r s' 141 [(0, vR l0), (1, vR l1)] [] s := by
  intro l0 l1 s hB
  unfold f_J2_afterNodeAccess_141 at hB
  refine gw_aload_n 0 rfl dJ2_afterNodeAccess_141 ?_
  obtain ⟨v1, hv1, hB⟩ := gB1_some hB
  refine gw_getf (C := RJ2) (T := TJ2) (N := 12) (k := 11) gcl10 (by decide) in_J2 q234 (gfI_spec hv1) dJ2_afterNodeAccess_142 ?_
  refine gw_iconst (v := (1 : Int32)) (by decide) dJ2_afterNodeAccess_145 ?_
  refine gw_icmp_ne (tgt := 265) dJ2_afterNodeAccess_146 (by decide) (fun hcnd => ?_) (fun hcnd => ?_)
  · rw [if_neg hcnd] at hB
    exact gw_sub [] rfl (w_J2_afterNodeAccess_265   _ hB)
  · rw [if_pos hcnd] at hB
    refine gw_aload_n 0 rfl dJ2_afterNodeAccess_149 ?_
    obtain ⟨v2, hv2, hB⟩ := gB1_some hB
    refine gw_getf (C := RJ2) (T := TJ2) (N := 12) (k := 8) gcl10 (by decide) in_J2 q229 (gfR_spec hv2) dJ2_afterNodeAccess_150 ?_
    refine gw_dup rfl dJ2_afterNodeAccess_153 ?_
    refine gw_astore_n (L' := [(3, vR v2), (0, vR l0), (1, vR l1)]) (Nat.le_of_ble_eq_true rfl) rfl dJ2_afterNodeAccess_154 ?_
    refine gw_aload_n 2 rfl dJ2_afterNodeAccess_155 ?_
    refine gw_acmp_eq (tgt := 265) dJ2_afterNodeAccess_156 (by decide) (fun hcnd => ?_) (fun hcnd => ?_)
    · rw [if_pos hcnd] at hB
      exact gw_sub [] rfl (w_J2_afterNodeAccess_265   _ hB)
    · rw [if_neg hcnd] at hB
      refine gw_aload_n 2 rfl dJ2_afterNodeAccess_159 ?_
      obtain ⟨u0, hu3, hB⟩ := gB1_some hB
      refine gw_cast (C := RJ19) gcl11 hu3 q785 (Or.inl rfl) dJ2_afterNodeAccess_160 ?_
      refine gw_astore (L' := [(4, vR l1), (3, vR v2), (0, vR l0), (1, vR l1)]) (Nat.le_of_ble_eq_true rfl) rfl dJ2_afterNodeAccess_163 ?_
      refine gw_aload 0 rfl dJ2_afterNodeAccess_165 ?_
      obtain ⟨v4, hv4, hB⟩ := gB1_some hB
      refine gw_getf (C := RJ19) (T := TJ19) (N := 6) (k := 4) gcl11 (by decide) in_J19 q794 (gfR_spec hv4) dJ2_afterNodeAccess_167 ?_
      refine gw_astore (L' := [(5, vR v4), (4, vR l1), (3, vR v2), (0, vR l0), (1, vR l1)]) (Nat.le_of_ble_eq_true rfl) rfl dJ2_afterNodeAccess_170 ?_
      refine gw_aload 1 rfl dJ2_afterNodeAccess_172 ?_
      obtain ⟨v5, hv5, hB⟩ := gB1_some hB
      refine gw_getf (C := RJ19) (T := TJ19) (N := 6) (k := 5) gcl11 (by decide) in_J19 q796 (gfR_spec hv5) dJ2_afterNodeAccess_174 ?_
      refine gw_astore (L' := [(6, vR v5), (5, vR v4), (4, vR l1), (3, vR v2), (0, vR l0), (1, vR l1)]) (Nat.le_of_ble_eq_true rfl) rfl dJ2_afterNodeAccess_177 ?_
      refine gw_aload 2 rfl dJ2_afterNodeAccess_179 ?_
      refine gw_null dJ2_afterNodeAccess_181 ?_
      obtain ⟨s6, hs6, hB⟩ := gB1_some hB
      refine gw_putf (C := RJ19) (T := TJ19) (N := 6) (k := 4) tyJ19 tyJ19_ok nmJ19 gcl11 (by decide) in_J19 q794 rfl (tyJ19_ok 4 (by decide)) (gNF_o _ _) hs6 dJ2_afterNodeAccess_182 ?_
      refine gw_aload 0 rfl dJ2_afterNodeAccess_185 ?_
      refine gw_ifnonnull (tgt := 199) dJ2_afterNodeAccess_187 (by decide) (fun hcnd => ?_) (fun hcnd => ?_)
      · rw [if_neg hcnd] at hB
        refine gw_aload 0 rfl dJ2_afterNodeAccess_199 ?_
        refine gw_aload 1 rfl dJ2_afterNodeAccess_201 ?_
        obtain ⟨s7, hs7, hB⟩ := gB1_some hB
        refine gw_putf (C := RJ19) (T := TJ19) (N := 6) (k := 4) tyJ19 tyJ19_ok nmJ19 gcl11 (by decide) in_J19 q794 rfl (tyJ19_ok 4 (by decide)) (gNF_o _ _) hs7 dJ2_afterNodeAccess_203 ?_
        exact gw_sub [4, 3, 2, 1, 0] rfl (w_J2_afterNodeAccess_206  _ _ _ _ _ _ hB)
      · rw [if_pos hcnd] at hB
        refine gw_aload_n 4 rfl dJ2_afterNodeAccess_190 ?_
        refine gw_aload 1 rfl dJ2_afterNodeAccess_191 ?_
        obtain ⟨s8, hs8, hB⟩ := gB1_some hB
        refine gw_putf (C := RJ2) (T := TJ2) (N := 12) (k := 9) tyJ2 tyJ2_ok nmJ2 gcl10 (by decide) in_J2 q232 rfl (tyJ2_ok 9 (by decide)) (gNF_o _ _) hs8 dJ2_afterNodeAccess_193 ?_
        refine gw_goto (tgt := 206) dJ2_afterNodeAccess_196 (by decide) ?_
        exact gw_sub [4, 3, 2, 1, 0] rfl (w_J2_afterNodeAccess_206  _ _ _ _ _ _ hB)
noncomputable def f_J2_afterNodeAccess_22 (κ : gK) (F : Nat)  (l0 : Option Nat) (l1 : Option Nat) (s : gS) : Option (Unit × gS) :=
  gB1 (gfR s l0 10 9) fun v1 =>
  if v1 = l1 then
    f_J2_afterNodeAccess_141 κ F  l0 l1 s
  else
    gB1 (gcc s l1 11) fun _ =>
    gB1 (gfR s l1 11 4) fun v3 =>
    gB1 (gfR s l1 11 5) fun v4 =>
    gB1 (gpf κ s l1 11 5 (va_rf none)) fun s5 =>
    if v3 = none then
      gB1 (gpf κ s5 l0 10 8 (va_rf v4)) fun s7 =>
      f_J2_afterNodeAccess_79 κ F  l0 v1 l1 v3 v4 s7
    else
      gB1 (gpf κ s5 v3 11 5 (va_rf v4)) fun s6 =>
      f_J2_afterNodeAccess_79 κ F  l0 v1 l1 v3 v4 s6
set_option maxHeartbeats 4000000 in
theorem w_J2_afterNodeAccess_22 {E : gE} {F z0 n0 : Nat} {r : Unit} {s' : gS}   : ∀ (l0 : Option Nat) (l1 : Option Nat)  (s : gS), f_J2_afterNodeAccess_22 (gk E) F  l0 l1 s = some (r, s') → W_J2_afterNodeAccess E z0 n0 r s' 22 [(0, vR l0), (1, vR l1)] [] s := by
  intro l0 l1 s hB
  unfold f_J2_afterNodeAccess_22 at hB
  refine gw_aload_n 0 rfl dJ2_afterNodeAccess_22 ?_
  obtain ⟨v1, hv1, hB⟩ := gB1_some hB
  refine gw_getf (C := RJ2) (T := TJ2) (N := 12) (k := 9) gcl10 (by decide) in_J2 q232 (gfR_spec hv1) dJ2_afterNodeAccess_23 ?_
  refine gw_dup rfl dJ2_afterNodeAccess_26 ?_
  refine gw_astore_n (L' := [(2, vR v1), (0, vR l0), (1, vR l1)]) (Nat.le_of_ble_eq_true rfl) rfl dJ2_afterNodeAccess_27 ?_
  refine gw_aload_n 2 rfl dJ2_afterNodeAccess_28 ?_
  refine gw_acmp_eq (tgt := 141) dJ2_afterNodeAccess_29 (by decide) (fun hcnd => ?_) (fun hcnd => ?_)
  · rw [if_pos hcnd] at hB
    exact gw_sub [1, 2] rfl (w_J2_afterNodeAccess_141  _ _ _ hB)
  · rw [if_neg hcnd] at hB
    refine gw_aload_n 2 rfl dJ2_afterNodeAccess_32 ?_
    obtain ⟨u0, hu2, hB⟩ := gB1_some hB
    refine gw_cast (C := RJ19) gcl11 hu2 q785 (Or.inl rfl) dJ2_afterNodeAccess_33 ?_
    refine gw_astore (L' := [(4, vR l1), (2, vR v1), (0, vR l0), (1, vR l1)]) (Nat.le_of_ble_eq_true rfl) rfl dJ2_afterNodeAccess_36 ?_
    refine gw_aload 0 rfl dJ2_afterNodeAccess_38 ?_
    obtain ⟨v3, hv3, hB⟩ := gB1_some hB
    refine gw_getf (C := RJ19) (T := TJ19) (N := 6) (k := 4) gcl11 (by decide) in_J19 q794 (gfR_spec hv3) dJ2_afterNodeAccess_40 ?_
    refine gw_astore (L' := [(5, vR v3), (4, vR l1), (2, vR v1), (0, vR l0), (1, vR l1)]) (Nat.le_of_ble_eq_true rfl) rfl dJ2_afterNodeAccess_43 ?_
    refine gw_aload 1 rfl dJ2_afterNodeAccess_45 ?_
    obtain ⟨v4, hv4, hB⟩ := gB1_some hB
    refine gw_getf (C := RJ19) (T := TJ19) (N := 6) (k := 5) gcl11 (by decide) in_J19 q796 (gfR_spec hv4) dJ2_afterNodeAccess_47 ?_
    refine gw_astore (L' := [(6, vR v4), (5, vR v3), (4, vR l1), (2, vR v1), (0, vR l0), (1, vR l1)]) (Nat.le_of_ble_eq_true rfl) rfl dJ2_afterNodeAccess_50 ?_
    refine gw_aload 2 rfl dJ2_afterNodeAccess_52 ?_
    refine gw_null dJ2_afterNodeAccess_54 ?_
    obtain ⟨s5, hs5, hB⟩ := gB1_some hB
    refine gw_putf (C := RJ19) (T := TJ19) (N := 6) (k := 5) tyJ19 tyJ19_ok nmJ19 gcl11 (by decide) in_J19 q796 rfl (tyJ19_ok 5 (by decide)) (gNF_o _ _) hs5 dJ2_afterNodeAccess_55 ?_
    refine gw_aload 1 rfl dJ2_afterNodeAccess_58 ?_
    refine gw_ifnonnull (tgt := 72) dJ2_afterNodeAccess_60 (by decide) (fun hcnd => ?_) (fun hcnd => ?_)
    · rw [if_neg hcnd] at hB
      refine gw_aload 1 rfl dJ2_afterNodeAccess_72 ?_
      refine gw_aload 0 rfl dJ2_afterNodeAccess_74 ?_
      obtain ⟨s6, hs6, hB⟩ := gB1_some hB
      refine gw_putf (C := RJ19) (T := TJ19) (N := 6) (k := 5) tyJ19 tyJ19_ok nmJ19 gcl11 (by decide) in_J19 q796 rfl (tyJ19_ok 5 (by decide)) (gNF_o _ _) hs6 dJ2_afterNodeAccess_76 ?_
      exact gw_sub [4, 3, 2, 1, 0] rfl (w_J2_afterNodeAccess_79  _ _ _ _ _ _ hB)
    · rw [if_pos hcnd] at hB
      refine gw_aload_n 4 rfl dJ2_afterNodeAccess_63 ?_
      refine gw_aload 0 rfl dJ2_afterNodeAccess_64 ?_
      obtain ⟨s7, hs7, hB⟩ := gB1_some hB
      refine gw_putf (C := RJ2) (T := TJ2) (N := 12) (k := 8) tyJ2 tyJ2_ok nmJ2 gcl10 (by decide) in_J2 q229 rfl (tyJ2_ok 8 (by decide)) (gNF_o _ _) hs7 dJ2_afterNodeAccess_66 ?_
      refine gw_goto (tgt := 79) dJ2_afterNodeAccess_69 (by decide) ?_
      exact gw_sub [4, 3, 2, 1, 0] rfl (w_J2_afterNodeAccess_79  _ _ _ _ _ _ hB)
noncomputable def f_J2_afterNodeAccess_0 (κ : gK) (F : Nat)  (l0 : Option Nat) (l1 : Option Nat) (s : gS) : Option (Unit × gS) :=
  gB1 (gfI s l0 10 11) fun v1 =>
  if v1 = (2 : Int32) then
    f_J2_afterNodeAccess_22 κ F  l0 l1 s
  else
    gB1 (gfI s l0 10 11) fun v2 =>
    if v2 = 0 then
      gB1 (gfI s l0 10 10) fun v3 =>
      if v3 = 0 then
        f_J2_afterNodeAccess_141 κ F  l0 l1 s
      else
        f_J2_afterNodeAccess_22 κ F  l0 l1 s
    else
      f_J2_afterNodeAccess_141 κ F  l0 l1 s
set_option maxHeartbeats 4000000 in
theorem w_J2_afterNodeAccess_0 {E : gE} {F z0 n0 : Nat} {r : Unit} {s' : gS}   : ∀ (l0 : Option Nat) (l1 : Option Nat)  (s : gS), f_J2_afterNodeAccess_0 (gk E) F  l0 l1 s = some (r, s') → W_J2_afterNodeAccess E z0 n0 r s' 0 [(0, vR l0), (1, vR l1)] [] s := by
  intro l0 l1 s hB
  unfold f_J2_afterNodeAccess_0 at hB
  refine gw_aload_n 0 rfl dJ2_afterNodeAccess_0 ?_
  obtain ⟨v1, hv1, hB⟩ := gB1_some hB
  refine gw_getf (C := RJ2) (T := TJ2) (N := 12) (k := 11) gcl10 (by decide) in_J2 q234 (gfI_spec hv1) dJ2_afterNodeAccess_1 ?_
  refine gw_iconst (v := (2 : Int32)) (by decide) dJ2_afterNodeAccess_4 ?_
  refine gw_icmp_eq (tgt := 22) dJ2_afterNodeAccess_5 (by decide) (fun hcnd => ?_) (fun hcnd => ?_)
  · rw [if_pos hcnd] at hB
    exact gw_sub [0, 1] rfl (w_J2_afterNodeAccess_22  _ _ _ hB)
  · rw [if_neg hcnd] at hB
    refine gw_aload_n 0 rfl dJ2_afterNodeAccess_8 ?_
    obtain ⟨v2, hv2, hB⟩ := gB1_some hB
    refine gw_getf (C := RJ2) (T := TJ2) (N := 12) (k := 11) gcl10 (by decide) in_J2 q234 (gfI_spec hv2) dJ2_afterNodeAccess_9 ?_
    refine gw_if_ne (tgt := 141) dJ2_afterNodeAccess_12 (by decide) (fun hcnd => ?_) (fun hcnd => ?_)
    · rw [if_neg hcnd] at hB
      exact gw_sub [0, 1] rfl (w_J2_afterNodeAccess_141  _ _ _ hB)
    · rw [if_pos hcnd] at hB
      refine gw_aload_n 0 rfl dJ2_afterNodeAccess_15 ?_
      obtain ⟨v3, hv3, hB⟩ := gB1_some hB
      refine gw_getf (C := RJ2) (T := TJ2) (N := 12) (k := 10) gcl10 (by decide) in_J2 q233 (gfI_spec hv3) dJ2_afterNodeAccess_16 ?_
      refine gw_if_eq (tgt := 141) dJ2_afterNodeAccess_19 (by decide) (fun hcnd => ?_) (fun hcnd => ?_)
      · rw [if_pos hcnd] at hB
        exact gw_sub [0, 1] rfl (w_J2_afterNodeAccess_141  _ _ _ hB)
      · rw [if_neg hcnd] at hB
        exact gw_sub [0, 1] rfl (w_J2_afterNodeAccess_22  _ _ _ hB)
noncomputable def f_J2_afterNodeAccess (κ : gK) (F : Nat) (a0 : Option Nat) (a1 : Option Nat) (s : gS) : Option (Unit × gS) := f_J2_afterNodeAccess_0 κ F a0 a1 s
theorem m_J2_afterNodeAccess {E : gE} {F : Nat} (a0 : Option Nat) (a1 : Option Nat) (s : gS) (r : Unit) (s' : gS) (h : f_J2_afterNodeAccess (gk E) F a0 a1 s = some (r, s')) : gCT E 1 yJ2_afterNodeAccess (ws_ yJ2_afterNodeAccess cJ2_afterNodeAccess 7 none) [vR a0, vR a1] s (.inl none) s' := by
  refine gCT_of2 (fun h => absurd h (by decide)) (plainFor_of_name (by decide)) (Nat.le_of_ble_eq_true rfl) ?_
  exact gw_sub [0, 1] rfl (w_J2_afterNodeAccess_0 _ _ _ h)
theorem dJ2_removeEldestEntry_0 : decode cJ2_removeEldestEntry 0 = .ok (.iconst 0, 1) := by decide +kernel
theorem dJ2_removeEldestEntry_1 : decode cJ2_removeEldestEntry 1 = .ok (.ireturn, 1) := by decide +kernel
/-! java/util/LinkedHashMap.removeEldestEntry(Ljava/util/Map$Entry;)Z -/
abbrev M_J2_removeEldestEntry (z0 n0 : Nat) (s' : gS) : gM := (RJ2, cJ2_removeEldestEntry, 2, (some FieldType.boolean), "removeEldestEntry", [], 1, z0, n0, s'.2.1, s'.2.2)
abbrev W_J2_removeEldestEntry (E : gE) (z0 n0 : Nat) (r : Int32) (s' : gS) (pc : Nat) (L : List (Nat × gV)) (st : List gV) (s : gS) : Prop := gW E (M_J2_removeEldestEntry z0 n0 s') (gQm E (M_J2_removeEldestEntry z0 n0 s') (.inl (some (vI r))) s') pc L st s
noncomputable def f_J2_removeEldestEntry_0 (κ : gK) (F : Nat)   (s : gS) : Option (Int32 × gS) :=
  gB1 (gok .boolean (0 : Int32)) fun _ => some ((0 : Int32), s)
set_option maxHeartbeats 4000000 in
theorem w_J2_removeEldestEntry_0 {E : gE} {F z0 n0 : Nat} {r : Int32} {s' : gS}   : ∀   (s : gS), f_J2_removeEldestEntry_0 (gk E) F   s = some (r, s') → W_J2_removeEldestEntry E z0 n0 r s' 0 [] [] s := by
  intro  s hB
  unfold f_J2_removeEldestEntry_0 at hB
  refine gw_iconst (v := (0 : Int32)) (by decide) dJ2_removeEldestEntry_0 ?_
  obtain ⟨u, hu, hB⟩ := gB1_some hB
  obtain ⟨rfl, rfl⟩ := Prod.mk.inj (Option.some.inj hB)
  exact gw_zret rfl hu rfl rfl dJ2_removeEldestEntry_1
noncomputable def f_J2_removeEldestEntry (κ : gK) (F : Nat) (a0 : Option Nat) (a1 : Option Nat) (s : gS) : Option (Int32 × gS) := f_J2_removeEldestEntry_0 κ F  s
theorem m_J2_removeEldestEntry {E : gE} {F : Nat} (a0 : Option Nat) (a1 : Option Nat) (s : gS) (r : Int32) (s' : gS) (h : f_J2_removeEldestEntry (gk E) F a0 a1 s = some (r, s')) : gCT E 1 yJ2_removeEldestEntry (ws_ yJ2_removeEldestEntry cJ2_removeEldestEntry 2 (some FieldType.boolean)) [vR a0, vR a1] s (.inl (some (vI r))) s' := by
  refine gCT_of2 (fun h => absurd h (by decide)) (plainFor_of_name (by decide)) (Nat.le_of_ble_eq_true rfl) ?_
  exact gw_sub [] rfl (w_J2_removeEldestEntry_0  _ h)
def dkwJ2_afterNodeInsertion_1 : List UInt8 := [180, 0, 39, 78, 42, 45, 184, 0, 57, 45, 1, 3, 4, 182, 0, 60, 87, 177]
abbrev dktJ2_afterNodeInsertion_1 : List UInt8 := dkwJ2_afterNodeInsertion_1 ++ []
def dkwJ2_afterNodeInsertion_0 : List UInt8 := [27, 153, 0, 38, 42, 180, 0, 7, 89, 77, 198, 0, 29, 42, 44, 182, 0, 53, 153, 0, 21, 44]
abbrev dktJ2_afterNodeInsertion_0 : List UInt8 := dkwJ2_afterNodeInsertion_0 ++ dktJ2_afterNodeInsertion_1
theorem dksJ2_afterNodeInsertion_0 : cJ2_afterNodeInsertion.data.toList.drop 0 = dktJ2_afterNodeInsertion_0 := by decide +kernel
theorem dksJ2_afterNodeInsertion_1 : cJ2_afterNodeInsertion.data.toList.drop 22 = dktJ2_afterNodeInsertion_1 := dk_seg dksJ2_afterNodeInsertion_0 22 rfl rfl
theorem dJ2_afterNodeInsertion_0 : decode cJ2_afterNodeInsertion 0 = .ok (.iload_n 1, 1) := dk_27 (dk_at dksJ2_afterNodeInsertion_0 0 rfl rfl)
theorem dJ2_afterNodeInsertion_1 : decode cJ2_afterNodeInsertion 1 = .ok (.ifCond .eq 38, 3) := dk_153 0 38 (dk_at dksJ2_afterNodeInsertion_0 1 rfl rfl)
theorem dJ2_afterNodeInsertion_4 : decode cJ2_afterNodeInsertion 4 = .ok (.aload_n 0, 1) := dk_42 (dk_at dksJ2_afterNodeInsertion_0 4 rfl rfl)
theorem dJ2_afterNodeInsertion_5 : decode cJ2_afterNodeInsertion 5 = .ok (.getfield 7, 3) := dk_180 0 7 (dk_at dksJ2_afterNodeInsertion_0 5 rfl rfl)
theorem dJ2_afterNodeInsertion_8 : decode cJ2_afterNodeInsertion 8 = .ok (.dup, 1) := dk_89 (dk_at dksJ2_afterNodeInsertion_0 8 rfl rfl)
theorem dJ2_afterNodeInsertion_9 : decode cJ2_afterNodeInsertion 9 = .ok (.astore_n 2, 1) := dk_77 (dk_at dksJ2_afterNodeInsertion_0 9 rfl rfl)
theorem dJ2_afterNodeInsertion_10 : decode cJ2_afterNodeInsertion 10 = .ok (.ifnull 29, 3) := dk_198 0 29 (dk_at dksJ2_afterNodeInsertion_0 10 rfl rfl)
theorem dJ2_afterNodeInsertion_13 : decode cJ2_afterNodeInsertion 13 = .ok (.aload_n 0, 1) := dk_42 (dk_at dksJ2_afterNodeInsertion_0 13 rfl rfl)
theorem dJ2_afterNodeInsertion_14 : decode cJ2_afterNodeInsertion 14 = .ok (.aload_n 2, 1) := dk_44 (dk_at dksJ2_afterNodeInsertion_0 14 rfl rfl)
theorem dJ2_afterNodeInsertion_15 : decode cJ2_afterNodeInsertion 15 = .ok (.invokevirtual 53, 3) := dk_182 0 53 (dk_at dksJ2_afterNodeInsertion_0 15 rfl rfl)
theorem dJ2_afterNodeInsertion_18 : decode cJ2_afterNodeInsertion 18 = .ok (.ifCond .eq 21, 3) := dk_153 0 21 (dk_at dksJ2_afterNodeInsertion_0 18 rfl rfl)
theorem dJ2_afterNodeInsertion_21 : decode cJ2_afterNodeInsertion 21 = .ok (.aload_n 2, 1) := dk_44 (dk_at dksJ2_afterNodeInsertion_0 21 rfl rfl)
theorem dJ2_afterNodeInsertion_22 : decode cJ2_afterNodeInsertion 22 = .ok (.getfield 39, 3) := dk_180 0 39 (dk_at dksJ2_afterNodeInsertion_1 0 rfl rfl)
theorem dJ2_afterNodeInsertion_25 : decode cJ2_afterNodeInsertion 25 = .ok (.astore_n 3, 1) := dk_78 (dk_at dksJ2_afterNodeInsertion_1 3 rfl rfl)
theorem dJ2_afterNodeInsertion_26 : decode cJ2_afterNodeInsertion 26 = .ok (.aload_n 0, 1) := dk_42 (dk_at dksJ2_afterNodeInsertion_1 4 rfl rfl)
theorem dJ2_afterNodeInsertion_27 : decode cJ2_afterNodeInsertion 27 = .ok (.aload_n 3, 1) := dk_45 (dk_at dksJ2_afterNodeInsertion_1 5 rfl rfl)
theorem dJ2_afterNodeInsertion_28 : decode cJ2_afterNodeInsertion 28 = .ok (.invokestatic 57, 3) := dk_184 0 57 (dk_at dksJ2_afterNodeInsertion_1 6 rfl rfl)
theorem dJ2_afterNodeInsertion_31 : decode cJ2_afterNodeInsertion 31 = .ok (.aload_n 3, 1) := dk_45 (dk_at dksJ2_afterNodeInsertion_1 9 rfl rfl)
theorem dJ2_afterNodeInsertion_32 : decode cJ2_afterNodeInsertion 32 = .ok (.aconst_null, 1) := dk_1 (dk_at dksJ2_afterNodeInsertion_1 10 rfl rfl)
theorem dJ2_afterNodeInsertion_33 : decode cJ2_afterNodeInsertion 33 = .ok (.iconst 0, 1) := dk_3 (dk_at dksJ2_afterNodeInsertion_1 11 rfl rfl)
theorem dJ2_afterNodeInsertion_34 : decode cJ2_afterNodeInsertion 34 = .ok (.iconst 1, 1) := dk_4 (dk_at dksJ2_afterNodeInsertion_1 12 rfl rfl)
theorem dJ2_afterNodeInsertion_35 : decode cJ2_afterNodeInsertion 35 = .ok (.invokevirtual 60, 3) := dk_182 0 60 (dk_at dksJ2_afterNodeInsertion_1 13 rfl rfl)
theorem dJ2_afterNodeInsertion_38 : decode cJ2_afterNodeInsertion 38 = .ok (.pop, 1) := dk_87 (dk_at dksJ2_afterNodeInsertion_1 16 rfl rfl)
theorem dJ2_afterNodeInsertion_39 : decode cJ2_afterNodeInsertion 39 = .ok (.return_, 1) := dk_177 (dk_at dksJ2_afterNodeInsertion_1 17 rfl rfl)
/-! java/util/LinkedHashMap.afterNodeInsertion(Z)V -/
abbrev M_J2_afterNodeInsertion (z0 n0 : Nat) (s' : gS) : gM := (RJ2, cJ2_afterNodeInsertion, 4, none, "afterNodeInsertion", [], 2, z0, n0, s'.2.1, s'.2.2)
abbrev W_J2_afterNodeInsertion (E : gE) (z0 n0 : Nat) (r : Unit) (s' : gS) (pc : Nat) (L : List (Nat × gV)) (st : List gV) (s : gS) : Prop := gW E (M_J2_afterNodeInsertion z0 n0 s') (gQm E (M_J2_afterNodeInsertion z0 n0 s') (.inl none) s') pc L st s
noncomputable def f_J2_afterNodeInsertion_39 (κ : gK) (F : Nat)   (s : gS) : Option (Unit × gS) :=
  some ((), s)
set_option maxHeartbeats 4000000 in
theorem w_J2_afterNodeInsertion_39 {E : gE} {F z0 n0 : Nat} {r : Unit} {s' : gS}   : ∀   (s : gS), f_J2_afterNodeInsertion_39 (gk E) F   s = some (r, s') → W_J2_afterNodeInsertion E z0 n0 r s' 39 [] [] s := by
  intro  s hB
  unfold f_J2_afterNodeInsertion_39 at hB
  obtain ⟨rfl, rfl⟩ := Prod.mk.inj (Option.some.inj hB)
  exact gw_vret rfl rfl rfl dJ2_afterNodeInsertion_39
noncomputable def f_J2_afterNodeInsertion_0 (κ : gK) (F : Nat)  (l0 : Option Nat) (l1 : Int32) (s : gS) : Option (Unit × gS) :=
  if l1 = 0 then
    f_J2_afterNodeInsertion_39 κ F  s
  else
    gB1 (gfR s l0 10 8) fun v1 =>
    if v1 = none then
      f_J2_afterNodeInsertion_39 κ F  s
    else
      gB1 (gck s l0 10) fun _ =>
      gB2 (f_J2_removeEldestEntry κ F l0 v1 s) fun v3 s2 =>
      if v3 = 0 then
        f_J2_afterNodeInsertion_39 κ F  s2
      else
        gB1 (gfR s2 v1 11 1) fun v5 =>
        none
set_option maxHeartbeats 4000000 in
theorem w_J2_afterNodeInsertion_0 {E : gE} {F z0 n0 : Nat} {r : Unit} {s' : gS}   : ∀ (l0 : Option Nat) (l1 : Int32)  (s : gS), f_J2_afterNodeInsertion_0 (gk E) F  l0 l1 s = some (r, s') → W_J2_afterNodeInsertion E z0 n0 r s' 0 [(0, vR l0), (1, vI l1)] [] s := by
  intro l0 l1 s hB
  unfold f_J2_afterNodeInsertion_0 at hB
  refine gw_iload_n 1 rfl dJ2_afterNodeInsertion_0 ?_
  refine gw_if_eq (tgt := 39) dJ2_afterNodeInsertion_1 (by decide) (fun hcnd => ?_) (fun hcnd => ?_)
  · rw [if_pos hcnd] at hB
    exact gw_sub [] rfl (w_J2_afterNodeInsertion_39   _ hB)
  · rw [if_neg hcnd] at hB
    refine gw_aload_n 0 rfl dJ2_afterNodeInsertion_4 ?_
    obtain ⟨v1, hv1, hB⟩ := gB1_some hB
    refine gw_getf (C := RJ2) (T := TJ2) (N := 12) (k := 8) gcl10 (by decide) in_J2 q229 (gfR_spec hv1) dJ2_afterNodeInsertion_5 ?_
    refine gw_dup rfl dJ2_afterNodeInsertion_8 ?_
    refine gw_astore_n (L' := [(2, vR v1), (0, vR l0), (1, vI l1)]) (Nat.le_of_ble_eq_true rfl) rfl dJ2_afterNodeInsertion_9 ?_
    refine gw_ifnull (tgt := 39) dJ2_afterNodeInsertion_10 (by decide) (fun hcnd => ?_) (fun hcnd => ?_)
    · rw [if_pos hcnd] at hB
      exact gw_sub [] rfl (w_J2_afterNodeInsertion_39   _ hB)
    · rw [if_neg hcnd] at hB
      refine gw_aload_n 1 rfl dJ2_afterNodeInsertion_13 ?_
      refine gw_aload_n 0 rfl dJ2_afterNodeInsertion_14 ?_
      obtain ⟨u0, hu4, hB⟩ := gB1_some hB
      obtain ⟨v3, s2, hv3, hB⟩ := gB2_some hB
      refine gw_callV (y := yJ2_removeEldestEntry) (lw_V q1239 q1240 q1241 q114 q1242) hdV_J2_removeEldestEntry gcl10 hu4 (As := [vR v1]) (rest := []) (m_J2_removeEldestEntry _ _ _ _ _ hv3) (Nat.le_of_ble_eq_true rfl) (Nat.le_of_ble_eq_true rfl) rfl (Nat.le_of_ble_eq_true rfl) dJ2_afterNodeInsertion_15 (gCont_i ?_)
      refine gw_if_eq (tgt := 39) dJ2_afterNodeInsertion_18 (by decide) (fun hcnd => ?_) (fun hcnd => ?_)
      · rw [if_pos hcnd] at hB
        exact gw_sub [] rfl (w_J2_afterNodeInsertion_39   _ hB)
      · rw [if_neg hcnd] at hB
        refine gw_aload_n 0 rfl dJ2_afterNodeInsertion_21 ?_
        obtain ⟨v5, hv5, hB⟩ := gB1_some hB
        refine gw_getfS (C := RJ19) (T := TJ19) (N := 6) (k := 1) gcl11 (by decide) in_J19 q808 q809 (gfR_spec hv5) dJ2_afterNodeInsertion_22 ?_
        refine gw_astore_n (L' := [(3, vR v5), (2, vR v1), (0, vR l0), (1, vI l1)]) (Nat.le_of_ble_eq_true rfl) rfl dJ2_afterNodeInsertion_25 ?_
        refine gw_aload_n 2 rfl dJ2_afterNodeInsertion_26 ?_
        refine gw_aload_n 0 rfl dJ2_afterNodeInsertion_27 ?_
        cases hB
noncomputable def f_J2_afterNodeInsertion (κ : gK) (F : Nat) (a0 : Option Nat) (a1 : Int32) (s : gS) : Option (Unit × gS) := f_J2_afterNodeInsertion_0 κ F a0 a1 s
theorem m_J2_afterNodeInsertion {E : gE} {F : Nat} (a0 : Option Nat) (a1 : Int32) (s : gS) (r : Unit) (s' : gS) (h : f_J2_afterNodeInsertion (gk E) F a0 a1 s = some (r, s')) : gCT E 2 yJ2_afterNodeInsertion (ws_ yJ2_afterNodeInsertion cJ2_afterNodeInsertion 4 none) [vR a0, vI a1] s (.inl none) s' := by
  refine gCT_of2 (fun h => absurd h (by decide)) (plainFor_of_name (by decide)) (Nat.le_of_ble_eq_true rfl) ?_
  exact gw_sub [0, 1] rfl (w_J2_afterNodeInsertion_0 _ _ _ h)
def dkwJ1_putVal_12 : List UInt8 := [181, 0, 156, 42, 180, 0, 88, 164, 0, 8, 42, 182, 0, 117, 87, 42, 21, 5, 182, 0, 205, 1, 176]
abbrev dktJ1_putVal_12 : List UInt8 := dkwJ1_putVal_12 ++ []
def dkwJ1_putVal_11 : List UInt8 := [182, 0, 198, 25, 12, 176, 42, 89, 180, 0, 202, 4, 96, 181, 0, 202, 42, 89, 180, 0, 156, 4, 96, 90]
abbrev dktJ1_putVal_11 : List UInt8 := dkwJ1_putVal_11 ++ dktJ1_putVal_12
def dkwJ1_putVal_10 : List UInt8 := [180, 0, 162, 58, 12, 21, 4, 153, 0, 8, 25, 12, 199, 0, 9, 25, 10, 45, 181, 0, 162, 42, 25, 10]
abbrev dktJ1_putVal_10 : List UInt8 := dkwJ1_putVal_10 ++ dktJ1_putVal_11
def dkwJ1_putVal_9 : List UInt8 := [153, 0, 6, 167, 0, 13, 25, 10, 58, 7, 132, 12, 1, 167, 255, 171, 25, 10, 198, 0, 35, 25, 10]
abbrev dktJ1_putVal_9 : List UInt8 := dkwJ1_putVal_9 ++ dktJ1_putVal_10
def dkwJ1_putVal_8 : List UInt8 := [25, 10, 180, 0, 170, 89, 58, 11, 44, 165, 0, 29, 44, 198, 0, 15, 44, 25, 11, 182, 0, 173]
abbrev dktJ1_putVal_8 : List UInt8 := dkwJ1_putVal_8 ++ dktJ1_putVal_9
def dkwJ1_putVal_7 : List UInt8 := [16, 7, 161, 0, 60, 42, 25, 6, 27, 182, 0, 194, 167, 0, 50, 25, 10, 180, 0, 168, 27, 160, 0, 31]
abbrev dktJ1_putVal_7 : List UInt8 := dkwJ1_putVal_7 ++ dktJ1_putVal_8
def dkwJ1_putVal_6 : List UInt8 := [180, 0, 177, 89, 58, 10, 199, 0, 33, 25, 7, 42, 27, 44, 45, 1, 182, 0, 186, 181, 0, 177, 21, 12]
abbrev dktJ1_putVal_6 : List UInt8 := dkwJ1_putVal_6 ++ dktJ1_putVal_7
def dkwJ1_putVal_5 : List UInt8 := [192, 0, 180, 42, 25, 6, 27, 44, 45, 182, 0, 190, 58, 10, 167, 0, 94, 3, 54, 12, 25, 7]
abbrev dktJ1_putVal_5 : List UInt8 := dkwJ1_putVal_5 ++ dktJ1_putVal_6
def dkwJ1_putVal_4 : List UInt8 := [182, 0, 173, 153, 0, 10, 25, 7, 58, 10, 167, 0, 121, 25, 7, 193, 0, 180, 153, 0, 22, 25, 7]
abbrev dktJ1_putVal_4 : List UInt8 := dkwJ1_putVal_4 ++ dktJ1_putVal_5
def dkwJ1_putVal_3 : List UInt8 := [160, 0, 35, 25, 7, 180, 0, 170, 89, 58, 11, 44, 165, 0, 16, 44, 198, 0, 19, 44, 25, 11]
abbrev dktJ1_putVal_3 : List UInt8 := dkwJ1_putVal_3 ++ dktJ1_putVal_4
def dkwJ1_putVal_2 : List UInt8 := [25, 6, 21, 9, 42, 27, 44, 45, 1, 182, 0, 186, 83, 167, 0, 199, 25, 7, 180, 0, 168, 27]
abbrev dktJ1_putVal_2 : List UInt8 := dkwJ1_putVal_2 ++ dktJ1_putVal_3
def dkwJ1_putVal_1 : List UInt8 := [58, 6, 190, 54, 8, 25, 6, 21, 8, 4, 100, 27, 126, 89, 54, 9, 50, 89, 58, 7, 199, 0, 19]
abbrev dktJ1_putVal_1 : List UInt8 := dkwJ1_putVal_1 ++ dktJ1_putVal_2
def dkwJ1_putVal_0 : List UInt8 := [42, 180, 0, 105, 89, 58, 6, 198, 0, 12, 25, 6, 190, 89, 54, 8, 154, 0, 13, 42, 182, 0, 117, 89]
abbrev dktJ1_putVal_0 : List UInt8 := dkwJ1_putVal_0 ++ dktJ1_putVal_1
theorem dksJ1_putVal_0 : cJ1_putVal.data.toList.drop 0 = dktJ1_putVal_0 := by decide +kernel
theorem dksJ1_putVal_1 : cJ1_putVal.data.toList.drop 24 = dktJ1_putVal_1 := dk_seg dksJ1_putVal_0 24 rfl rfl
theorem dksJ1_putVal_2 : cJ1_putVal.data.toList.drop 47 = dktJ1_putVal_2 := dk_seg dksJ1_putVal_1 23 rfl rfl
theorem dksJ1_putVal_3 : cJ1_putVal.data.toList.drop 69 = dktJ1_putVal_3 := dk_seg dksJ1_putVal_2 22 rfl rfl
theorem dksJ1_putVal_4 : cJ1_putVal.data.toList.drop 91 = dktJ1_putVal_4 := dk_seg dksJ1_putVal_3 22 rfl rfl
theorem dksJ1_putVal_5 : cJ1_putVal.data.toList.drop 114 = dktJ1_putVal_5 := dk_seg dksJ1_putVal_4 23 rfl rfl
theorem dksJ1_putVal_6 : cJ1_putVal.data.toList.drop 136 = dktJ1_putVal_6 := dk_seg dksJ1_putVal_5 22 rfl rfl
theorem dksJ1_putVal_7 : cJ1_putVal.data.toList.drop 160 = dktJ1_putVal_7 := dk_seg dksJ1_putVal_6 24 rfl rfl
theorem dksJ1_putVal_8 : cJ1_putVal.data.toList.drop 184 = dktJ1_putVal_8 := dk_seg dksJ1_putVal_7 24 rfl rfl
theorem dksJ1_putVal_9 : cJ1_putVal.data.toList.drop 206 = dktJ1_putVal_9 := dk_seg dksJ1_putVal_8 22 rfl rfl
theorem dksJ1_putVal_10 : cJ1_putVal.data.toList.drop 229 = dktJ1_putVal_10 := dk_seg dksJ1_putVal_9 23 rfl rfl
theorem dksJ1_putVal_11 : cJ1_putVal.data.toList.drop 253 = dktJ1_putVal_11 := dk_seg dksJ1_putVal_10 24 rfl rfl
theorem dksJ1_putVal_12 : cJ1_putVal.data.toList.drop 277 = dktJ1_putVal_12 := dk_seg dksJ1_putVal_11 24 rfl rfl
theorem dJ1_putVal_0 : decode cJ1_putVal 0 = .ok (.aload_n 0, 1) := dk_42 (dk_at dksJ1_putVal_0 0 rfl rfl)
theorem dJ1_putVal_1 : decode cJ1_putVal 1 = .ok (.getfield 105, 3) := dk_180 0 105 (dk_at dksJ1_putVal_0 1 rfl rfl)
theorem dJ1_putVal_4 : decode cJ1_putVal 4 = .ok (.dup, 1) := dk_89 (dk_at dksJ1_putVal_0 4 rfl rfl)
theorem dJ1_putVal_5 : decode cJ1_putVal 5 = .ok (.astore 6, 2) := dk_58 6 (dk_at dksJ1_putVal_0 5 rfl rfl)
theorem dJ1_putVal_7 : decode cJ1_putVal 7 = .ok (.ifnull 12, 3) := dk_198 0 12 (dk_at dksJ1_putVal_0 7 rfl rfl)
theorem dJ1_putVal_10 : decode cJ1_putVal 10 = .ok (.aload 6, 2) := dk_25 6 (dk_at dksJ1_putVal_0 10 rfl rfl)
theorem dJ1_putVal_12 : decode cJ1_putVal 12 = .ok (.arraylength, 1) := dk_190 (dk_at dksJ1_putVal_0 12 rfl rfl)
theorem dJ1_putVal_13 : decode cJ1_putVal 13 = .ok (.dup, 1) := dk_89 (dk_at dksJ1_putVal_0 13 rfl rfl)
theorem dJ1_putVal_14 : decode cJ1_putVal 14 = .ok (.istore 8, 2) := dk_54 8 (dk_at dksJ1_putVal_0 14 rfl rfl)
theorem dJ1_putVal_16 : decode cJ1_putVal 16 = .ok (.ifCond .ne 13, 3) := dk_154 0 13 (dk_at dksJ1_putVal_0 16 rfl rfl)
theorem dJ1_putVal_19 : decode cJ1_putVal 19 = .ok (.aload_n 0, 1) := dk_42 (dk_at dksJ1_putVal_0 19 rfl rfl)
theorem dJ1_putVal_20 : decode cJ1_putVal 20 = .ok (.invokevirtual 117, 3) := dk_182 0 117 (dk_at dksJ1_putVal_0 20 rfl rfl)
theorem dJ1_putVal_23 : decode cJ1_putVal 23 = .ok (.dup, 1) := dk_89 (dk_at dksJ1_putVal_0 23 rfl rfl)
theorem dJ1_putVal_24 : decode cJ1_putVal 24 = .ok (.astore 6, 2) := dk_58 6 (dk_at dksJ1_putVal_1 0 rfl rfl)
theorem dJ1_putVal_26 : decode cJ1_putVal 26 = .ok (.arraylength, 1) := dk_190 (dk_at dksJ1_putVal_1 2 rfl rfl)
theorem dJ1_putVal_27 : decode cJ1_putVal 27 = .ok (.istore 8, 2) := dk_54 8 (dk_at dksJ1_putVal_1 3 rfl rfl)
theorem dJ1_putVal_29 : decode cJ1_putVal 29 = .ok (.aload 6, 2) := dk_25 6 (dk_at dksJ1_putVal_1 5 rfl rfl)
theorem dJ1_putVal_31 : decode cJ1_putVal 31 = .ok (.iload 8, 2) := dk_21 8 (dk_at dksJ1_putVal_1 7 rfl rfl)
theorem dJ1_putVal_33 : decode cJ1_putVal 33 = .ok (.iconst 1, 1) := dk_4 (dk_at dksJ1_putVal_1 9 rfl rfl)
theorem dJ1_putVal_34 : decode cJ1_putVal 34 = .ok (.isub, 1) := dk_100 (dk_at dksJ1_putVal_1 10 rfl rfl)
theorem dJ1_putVal_35 : decode cJ1_putVal 35 = .ok (.iload_n 1, 1) := dk_27 (dk_at dksJ1_putVal_1 11 rfl rfl)
theorem dJ1_putVal_36 : decode cJ1_putVal 36 = .ok (.iand, 1) := dk_126 (dk_at dksJ1_putVal_1 12 rfl rfl)
theorem dJ1_putVal_37 : decode cJ1_putVal 37 = .ok (.dup, 1) := dk_89 (dk_at dksJ1_putVal_1 13 rfl rfl)
theorem dJ1_putVal_38 : decode cJ1_putVal 38 = .ok (.istore 9, 2) := dk_54 9 (dk_at dksJ1_putVal_1 14 rfl rfl)
theorem dJ1_putVal_40 : decode cJ1_putVal 40 = .ok (.aaload, 1) := dk_50 (dk_at dksJ1_putVal_1 16 rfl rfl)
theorem dJ1_putVal_41 : decode cJ1_putVal 41 = .ok (.dup, 1) := dk_89 (dk_at dksJ1_putVal_1 17 rfl rfl)
theorem dJ1_putVal_42 : decode cJ1_putVal 42 = .ok (.astore 7, 2) := dk_58 7 (dk_at dksJ1_putVal_1 18 rfl rfl)
theorem dJ1_putVal_44 : decode cJ1_putVal 44 = .ok (.ifnonnull 19, 3) := dk_199 0 19 (dk_at dksJ1_putVal_1 20 rfl rfl)
theorem dJ1_putVal_47 : decode cJ1_putVal 47 = .ok (.aload 6, 2) := dk_25 6 (dk_at dksJ1_putVal_2 0 rfl rfl)
theorem dJ1_putVal_49 : decode cJ1_putVal 49 = .ok (.iload 9, 2) := dk_21 9 (dk_at dksJ1_putVal_2 2 rfl rfl)
theorem dJ1_putVal_51 : decode cJ1_putVal 51 = .ok (.aload_n 0, 1) := dk_42 (dk_at dksJ1_putVal_2 4 rfl rfl)
theorem dJ1_putVal_52 : decode cJ1_putVal 52 = .ok (.iload_n 1, 1) := dk_27 (dk_at dksJ1_putVal_2 5 rfl rfl)
theorem dJ1_putVal_53 : decode cJ1_putVal 53 = .ok (.aload_n 2, 1) := dk_44 (dk_at dksJ1_putVal_2 6 rfl rfl)
theorem dJ1_putVal_54 : decode cJ1_putVal 54 = .ok (.aload_n 3, 1) := dk_45 (dk_at dksJ1_putVal_2 7 rfl rfl)
theorem dJ1_putVal_55 : decode cJ1_putVal 55 = .ok (.aconst_null, 1) := dk_1 (dk_at dksJ1_putVal_2 8 rfl rfl)
theorem dJ1_putVal_56 : decode cJ1_putVal 56 = .ok (.invokevirtual 186, 3) := dk_182 0 186 (dk_at dksJ1_putVal_2 9 rfl rfl)
theorem dJ1_putVal_59 : decode cJ1_putVal 59 = .ok (.aastore, 1) := dk_83 (dk_at dksJ1_putVal_2 12 rfl rfl)
theorem dJ1_putVal_60 : decode cJ1_putVal 60 = .ok (.goto 199, 3) := dk_167 0 199 (dk_at dksJ1_putVal_2 13 rfl rfl)
theorem dJ1_putVal_63 : decode cJ1_putVal 63 = .ok (.aload 7, 2) := dk_25 7 (dk_at dksJ1_putVal_2 16 rfl rfl)
theorem dJ1_putVal_65 : decode cJ1_putVal 65 = .ok (.getfield 168, 3) := dk_180 0 168 (dk_at dksJ1_putVal_2 18 rfl rfl)
theorem dJ1_putVal_68 : decode cJ1_putVal 68 = .ok (.iload_n 1, 1) := dk_27 (dk_at dksJ1_putVal_2 21 rfl rfl)
theorem dJ1_putVal_69 : decode cJ1_putVal 69 = .ok (.if_icmp .ne 35, 3) := dk_160 0 35 (dk_at dksJ1_putVal_3 0 rfl rfl)
theorem dJ1_putVal_72 : decode cJ1_putVal 72 = .ok (.aload 7, 2) := dk_25 7 (dk_at dksJ1_putVal_3 3 rfl rfl)
theorem dJ1_putVal_74 : decode cJ1_putVal 74 = .ok (.getfield 170, 3) := dk_180 0 170 (dk_at dksJ1_putVal_3 5 rfl rfl)
theorem dJ1_putVal_77 : decode cJ1_putVal 77 = .ok (.dup, 1) := dk_89 (dk_at dksJ1_putVal_3 8 rfl rfl)
theorem dJ1_putVal_78 : decode cJ1_putVal 78 = .ok (.astore 11, 2) := dk_58 11 (dk_at dksJ1_putVal_3 9 rfl rfl)
theorem dJ1_putVal_80 : decode cJ1_putVal 80 = .ok (.aload_n 2, 1) := dk_44 (dk_at dksJ1_putVal_3 11 rfl rfl)
theorem dJ1_putVal_81 : decode cJ1_putVal 81 = .ok (.if_acmp .eq 16, 3) := dk_165 0 16 (dk_at dksJ1_putVal_3 12 rfl rfl)
theorem dJ1_putVal_84 : decode cJ1_putVal 84 = .ok (.aload_n 2, 1) := dk_44 (dk_at dksJ1_putVal_3 15 rfl rfl)
theorem dJ1_putVal_85 : decode cJ1_putVal 85 = .ok (.ifnull 19, 3) := dk_198 0 19 (dk_at dksJ1_putVal_3 16 rfl rfl)
theorem dJ1_putVal_88 : decode cJ1_putVal 88 = .ok (.aload_n 2, 1) := dk_44 (dk_at dksJ1_putVal_3 19 rfl rfl)
theorem dJ1_putVal_89 : decode cJ1_putVal 89 = .ok (.aload 11, 2) := dk_25 11 (dk_at dksJ1_putVal_3 20 rfl rfl)
theorem dJ1_putVal_91 : decode cJ1_putVal 91 = .ok (.invokevirtual 173, 3) := dk_182 0 173 (dk_at dksJ1_putVal_4 0 rfl rfl)
theorem dJ1_putVal_94 : decode cJ1_putVal 94 = .ok (.ifCond .eq 10, 3) := dk_153 0 10 (dk_at dksJ1_putVal_4 3 rfl rfl)
theorem dJ1_putVal_97 : decode cJ1_putVal 97 = .ok (.aload 7, 2) := dk_25 7 (dk_at dksJ1_putVal_4 6 rfl rfl)
theorem dJ1_putVal_99 : decode cJ1_putVal 99 = .ok (.astore 10, 2) := dk_58 10 (dk_at dksJ1_putVal_4 8 rfl rfl)
theorem dJ1_putVal_101 : decode cJ1_putVal 101 = .ok (.goto 121, 3) := dk_167 0 121 (dk_at dksJ1_putVal_4 10 rfl rfl)
theorem dJ1_putVal_104 : decode cJ1_putVal 104 = .ok (.aload 7, 2) := dk_25 7 (dk_at dksJ1_putVal_4 13 rfl rfl)
theorem dJ1_putVal_106 : decode cJ1_putVal 106 = .ok (.instanceof 180, 3) := dk_193 0 180 (dk_at dksJ1_putVal_4 15 rfl rfl)
theorem dJ1_putVal_109 : decode cJ1_putVal 109 = .ok (.ifCond .eq 22, 3) := dk_153 0 22 (dk_at dksJ1_putVal_4 18 rfl rfl)
theorem dJ1_putVal_112 : decode cJ1_putVal 112 = .ok (.aload 7, 2) := dk_25 7 (dk_at dksJ1_putVal_4 21 rfl rfl)
theorem dJ1_putVal_114 : decode cJ1_putVal 114 = .ok (.checkcast 180, 3) := dk_192 0 180 (dk_at dksJ1_putVal_5 0 rfl rfl)
theorem dJ1_putVal_117 : decode cJ1_putVal 117 = .ok (.aload_n 0, 1) := dk_42 (dk_at dksJ1_putVal_5 3 rfl rfl)
theorem dJ1_putVal_118 : decode cJ1_putVal 118 = .ok (.aload 6, 2) := dk_25 6 (dk_at dksJ1_putVal_5 4 rfl rfl)
theorem dJ1_putVal_120 : decode cJ1_putVal 120 = .ok (.iload_n 1, 1) := dk_27 (dk_at dksJ1_putVal_5 6 rfl rfl)
theorem dJ1_putVal_121 : decode cJ1_putVal 121 = .ok (.aload_n 2, 1) := dk_44 (dk_at dksJ1_putVal_5 7 rfl rfl)
theorem dJ1_putVal_122 : decode cJ1_putVal 122 = .ok (.aload_n 3, 1) := dk_45 (dk_at dksJ1_putVal_5 8 rfl rfl)
theorem dJ1_putVal_123 : decode cJ1_putVal 123 = .ok (.invokevirtual 190, 3) := dk_182 0 190 (dk_at dksJ1_putVal_5 9 rfl rfl)
theorem dJ1_putVal_126 : decode cJ1_putVal 126 = .ok (.astore 10, 2) := dk_58 10 (dk_at dksJ1_putVal_5 12 rfl rfl)
theorem dJ1_putVal_128 : decode cJ1_putVal 128 = .ok (.goto 94, 3) := dk_167 0 94 (dk_at dksJ1_putVal_5 14 rfl rfl)
theorem dJ1_putVal_131 : decode cJ1_putVal 131 = .ok (.iconst 0, 1) := dk_3 (dk_at dksJ1_putVal_5 17 rfl rfl)
theorem dJ1_putVal_132 : decode cJ1_putVal 132 = .ok (.istore 12, 2) := dk_54 12 (dk_at dksJ1_putVal_5 18 rfl rfl)
theorem dJ1_putVal_134 : decode cJ1_putVal 134 = .ok (.aload 7, 2) := dk_25 7 (dk_at dksJ1_putVal_5 20 rfl rfl)
theorem dJ1_putVal_136 : decode cJ1_putVal 136 = .ok (.getfield 177, 3) := dk_180 0 177 (dk_at dksJ1_putVal_6 0 rfl rfl)
theorem dJ1_putVal_139 : decode cJ1_putVal 139 = .ok (.dup, 1) := dk_89 (dk_at dksJ1_putVal_6 3 rfl rfl)
theorem dJ1_putVal_140 : decode cJ1_putVal 140 = .ok (.astore 10, 2) := dk_58 10 (dk_at dksJ1_putVal_6 4 rfl rfl)
theorem dJ1_putVal_142 : decode cJ1_putVal 142 = .ok (.ifnonnull 33, 3) := dk_199 0 33 (dk_at dksJ1_putVal_6 6 rfl rfl)
theorem dJ1_putVal_145 : decode cJ1_putVal 145 = .ok (.aload 7, 2) := dk_25 7 (dk_at dksJ1_putVal_6 9 rfl rfl)
theorem dJ1_putVal_147 : decode cJ1_putVal 147 = .ok (.aload_n 0, 1) := dk_42 (dk_at dksJ1_putVal_6 11 rfl rfl)
theorem dJ1_putVal_148 : decode cJ1_putVal 148 = .ok (.iload_n 1, 1) := dk_27 (dk_at dksJ1_putVal_6 12 rfl rfl)
theorem dJ1_putVal_149 : decode cJ1_putVal 149 = .ok (.aload_n 2, 1) := dk_44 (dk_at dksJ1_putVal_6 13 rfl rfl)
theorem dJ1_putVal_150 : decode cJ1_putVal 150 = .ok (.aload_n 3, 1) := dk_45 (dk_at dksJ1_putVal_6 14 rfl rfl)
theorem dJ1_putVal_151 : decode cJ1_putVal 151 = .ok (.aconst_null, 1) := dk_1 (dk_at dksJ1_putVal_6 15 rfl rfl)
theorem dJ1_putVal_152 : decode cJ1_putVal 152 = .ok (.invokevirtual 186, 3) := dk_182 0 186 (dk_at dksJ1_putVal_6 16 rfl rfl)
theorem dJ1_putVal_155 : decode cJ1_putVal 155 = .ok (.putfield 177, 3) := dk_181 0 177 (dk_at dksJ1_putVal_6 19 rfl rfl)
theorem dJ1_putVal_158 : decode cJ1_putVal 158 = .ok (.iload 12, 2) := dk_21 12 (dk_at dksJ1_putVal_6 22 rfl rfl)
theorem dJ1_putVal_160 : decode cJ1_putVal 160 = .ok (.bipush 7, 2) := dk_16 7 (dk_at dksJ1_putVal_7 0 rfl rfl)
theorem dJ1_putVal_162 : decode cJ1_putVal 162 = .ok (.if_icmp .lt 60, 3) := dk_161 0 60 (dk_at dksJ1_putVal_7 2 rfl rfl)
theorem dJ1_putVal_165 : decode cJ1_putVal 165 = .ok (.aload_n 0, 1) := dk_42 (dk_at dksJ1_putVal_7 5 rfl rfl)
theorem dJ1_putVal_166 : decode cJ1_putVal 166 = .ok (.aload 6, 2) := dk_25 6 (dk_at dksJ1_putVal_7 6 rfl rfl)
theorem dJ1_putVal_168 : decode cJ1_putVal 168 = .ok (.iload_n 1, 1) := dk_27 (dk_at dksJ1_putVal_7 8 rfl rfl)
theorem dJ1_putVal_169 : decode cJ1_putVal 169 = .ok (.invokevirtual 194, 3) := dk_182 0 194 (dk_at dksJ1_putVal_7 9 rfl rfl)
theorem dJ1_putVal_172 : decode cJ1_putVal 172 = .ok (.goto 50, 3) := dk_167 0 50 (dk_at dksJ1_putVal_7 12 rfl rfl)
theorem dJ1_putVal_175 : decode cJ1_putVal 175 = .ok (.aload 10, 2) := dk_25 10 (dk_at dksJ1_putVal_7 15 rfl rfl)
theorem dJ1_putVal_177 : decode cJ1_putVal 177 = .ok (.getfield 168, 3) := dk_180 0 168 (dk_at dksJ1_putVal_7 17 rfl rfl)
theorem dJ1_putVal_180 : decode cJ1_putVal 180 = .ok (.iload_n 1, 1) := dk_27 (dk_at dksJ1_putVal_7 20 rfl rfl)
theorem dJ1_putVal_181 : decode cJ1_putVal 181 = .ok (.if_icmp .ne 31, 3) := dk_160 0 31 (dk_at dksJ1_putVal_7 21 rfl rfl)
theorem dJ1_putVal_184 : decode cJ1_putVal 184 = .ok (.aload 10, 2) := dk_25 10 (dk_at dksJ1_putVal_8 0 rfl rfl)
theorem dJ1_putVal_186 : decode cJ1_putVal 186 = .ok (.getfield 170, 3) := dk_180 0 170 (dk_at dksJ1_putVal_8 2 rfl rfl)
theorem dJ1_putVal_189 : decode cJ1_putVal 189 = .ok (.dup, 1) := dk_89 (dk_at dksJ1_putVal_8 5 rfl rfl)
theorem dJ1_putVal_190 : decode cJ1_putVal 190 = .ok (.astore 11, 2) := dk_58 11 (dk_at dksJ1_putVal_8 6 rfl rfl)
theorem dJ1_putVal_192 : decode cJ1_putVal 192 = .ok (.aload_n 2, 1) := dk_44 (dk_at dksJ1_putVal_8 8 rfl rfl)
theorem dJ1_putVal_193 : decode cJ1_putVal 193 = .ok (.if_acmp .eq 29, 3) := dk_165 0 29 (dk_at dksJ1_putVal_8 9 rfl rfl)
theorem dJ1_putVal_196 : decode cJ1_putVal 196 = .ok (.aload_n 2, 1) := dk_44 (dk_at dksJ1_putVal_8 12 rfl rfl)
theorem dJ1_putVal_197 : decode cJ1_putVal 197 = .ok (.ifnull 15, 3) := dk_198 0 15 (dk_at dksJ1_putVal_8 13 rfl rfl)
theorem dJ1_putVal_200 : decode cJ1_putVal 200 = .ok (.aload_n 2, 1) := dk_44 (dk_at dksJ1_putVal_8 16 rfl rfl)
theorem dJ1_putVal_201 : decode cJ1_putVal 201 = .ok (.aload 11, 2) := dk_25 11 (dk_at dksJ1_putVal_8 17 rfl rfl)
theorem dJ1_putVal_203 : decode cJ1_putVal 203 = .ok (.invokevirtual 173, 3) := dk_182 0 173 (dk_at dksJ1_putVal_8 19 rfl rfl)
theorem dJ1_putVal_206 : decode cJ1_putVal 206 = .ok (.ifCond .eq 6, 3) := dk_153 0 6 (dk_at dksJ1_putVal_9 0 rfl rfl)
theorem dJ1_putVal_209 : decode cJ1_putVal 209 = .ok (.goto 13, 3) := dk_167 0 13 (dk_at dksJ1_putVal_9 3 rfl rfl)
theorem dJ1_putVal_212 : decode cJ1_putVal 212 = .ok (.aload 10, 2) := dk_25 10 (dk_at dksJ1_putVal_9 6 rfl rfl)
theorem dJ1_putVal_214 : decode cJ1_putVal 214 = .ok (.astore 7, 2) := dk_58 7 (dk_at dksJ1_putVal_9 8 rfl rfl)
theorem dJ1_putVal_216 : decode cJ1_putVal 216 = .ok (.iinc 12 1, 3) := dk_132 12 1 (dk_at dksJ1_putVal_9 10 rfl rfl)
theorem dJ1_putVal_219 : decode cJ1_putVal 219 = .ok (.goto (-85), 3) := dk_167 255 171 (dk_at dksJ1_putVal_9 13 rfl rfl)
theorem dJ1_putVal_222 : decode cJ1_putVal 222 = .ok (.aload 10, 2) := dk_25 10 (dk_at dksJ1_putVal_9 16 rfl rfl)
theorem dJ1_putVal_224 : decode cJ1_putVal 224 = .ok (.ifnull 35, 3) := dk_198 0 35 (dk_at dksJ1_putVal_9 18 rfl rfl)
theorem dJ1_putVal_227 : decode cJ1_putVal 227 = .ok (.aload 10, 2) := dk_25 10 (dk_at dksJ1_putVal_9 21 rfl rfl)
theorem dJ1_putVal_229 : decode cJ1_putVal 229 = .ok (.getfield 162, 3) := dk_180 0 162 (dk_at dksJ1_putVal_10 0 rfl rfl)
theorem dJ1_putVal_232 : decode cJ1_putVal 232 = .ok (.astore 12, 2) := dk_58 12 (dk_at dksJ1_putVal_10 3 rfl rfl)
theorem dJ1_putVal_234 : decode cJ1_putVal 234 = .ok (.iload 4, 2) := dk_21 4 (dk_at dksJ1_putVal_10 5 rfl rfl)
theorem dJ1_putVal_236 : decode cJ1_putVal 236 = .ok (.ifCond .eq 8, 3) := dk_153 0 8 (dk_at dksJ1_putVal_10 7 rfl rfl)
theorem dJ1_putVal_239 : decode cJ1_putVal 239 = .ok (.aload 12, 2) := dk_25 12 (dk_at dksJ1_putVal_10 10 rfl rfl)
theorem dJ1_putVal_241 : decode cJ1_putVal 241 = .ok (.ifnonnull 9, 3) := dk_199 0 9 (dk_at dksJ1_putVal_10 12 rfl rfl)
theorem dJ1_putVal_244 : decode cJ1_putVal 244 = .ok (.aload 10, 2) := dk_25 10 (dk_at dksJ1_putVal_10 15 rfl rfl)
theorem dJ1_putVal_246 : decode cJ1_putVal 246 = .ok (.aload_n 3, 1) := dk_45 (dk_at dksJ1_putVal_10 17 rfl rfl)
theorem dJ1_putVal_247 : decode cJ1_putVal 247 = .ok (.putfield 162, 3) := dk_181 0 162 (dk_at dksJ1_putVal_10 18 rfl rfl)
theorem dJ1_putVal_250 : decode cJ1_putVal 250 = .ok (.aload_n 0, 1) := dk_42 (dk_at dksJ1_putVal_10 21 rfl rfl)
theorem dJ1_putVal_251 : decode cJ1_putVal 251 = .ok (.aload 10, 2) := dk_25 10 (dk_at dksJ1_putVal_10 22 rfl rfl)
theorem dJ1_putVal_253 : decode cJ1_putVal 253 = .ok (.invokevirtual 198, 3) := dk_182 0 198 (dk_at dksJ1_putVal_11 0 rfl rfl)
theorem dJ1_putVal_256 : decode cJ1_putVal 256 = .ok (.aload 12, 2) := dk_25 12 (dk_at dksJ1_putVal_11 3 rfl rfl)
theorem dJ1_putVal_258 : decode cJ1_putVal 258 = .ok (.areturn, 1) := dk_176 (dk_at dksJ1_putVal_11 5 rfl rfl)
theorem dJ1_putVal_259 : decode cJ1_putVal 259 = .ok (.aload_n 0, 1) := dk_42 (dk_at dksJ1_putVal_11 6 rfl rfl)
theorem dJ1_putVal_260 : decode cJ1_putVal 260 = .ok (.dup, 1) := dk_89 (dk_at dksJ1_putVal_11 7 rfl rfl)
theorem dJ1_putVal_261 : decode cJ1_putVal 261 = .ok (.getfield 202, 3) := dk_180 0 202 (dk_at dksJ1_putVal_11 8 rfl rfl)
theorem dJ1_putVal_264 : decode cJ1_putVal 264 = .ok (.iconst 1, 1) := dk_4 (dk_at dksJ1_putVal_11 11 rfl rfl)
theorem dJ1_putVal_265 : decode cJ1_putVal 265 = .ok (.iadd, 1) := dk_96 (dk_at dksJ1_putVal_11 12 rfl rfl)
theorem dJ1_putVal_266 : decode cJ1_putVal 266 = .ok (.putfield 202, 3) := dk_181 0 202 (dk_at dksJ1_putVal_11 13 rfl rfl)
theorem dJ1_putVal_269 : decode cJ1_putVal 269 = .ok (.aload_n 0, 1) := dk_42 (dk_at dksJ1_putVal_11 16 rfl rfl)
theorem dJ1_putVal_270 : decode cJ1_putVal 270 = .ok (.dup, 1) := dk_89 (dk_at dksJ1_putVal_11 17 rfl rfl)
theorem dJ1_putVal_271 : decode cJ1_putVal 271 = .ok (.getfield 156, 3) := dk_180 0 156 (dk_at dksJ1_putVal_11 18 rfl rfl)
theorem dJ1_putVal_274 : decode cJ1_putVal 274 = .ok (.iconst 1, 1) := dk_4 (dk_at dksJ1_putVal_11 21 rfl rfl)
theorem dJ1_putVal_275 : decode cJ1_putVal 275 = .ok (.iadd, 1) := dk_96 (dk_at dksJ1_putVal_11 22 rfl rfl)
theorem dJ1_putVal_276 : decode cJ1_putVal 276 = .ok (.dup_x1, 1) := dk_90 (dk_at dksJ1_putVal_11 23 rfl rfl)
theorem dJ1_putVal_277 : decode cJ1_putVal 277 = .ok (.putfield 156, 3) := dk_181 0 156 (dk_at dksJ1_putVal_12 0 rfl rfl)
theorem dJ1_putVal_280 : decode cJ1_putVal 280 = .ok (.aload_n 0, 1) := dk_42 (dk_at dksJ1_putVal_12 3 rfl rfl)
theorem dJ1_putVal_281 : decode cJ1_putVal 281 = .ok (.getfield 88, 3) := dk_180 0 88 (dk_at dksJ1_putVal_12 4 rfl rfl)
theorem dJ1_putVal_284 : decode cJ1_putVal 284 = .ok (.if_icmp .le 8, 3) := dk_164 0 8 (dk_at dksJ1_putVal_12 7 rfl rfl)
theorem dJ1_putVal_287 : decode cJ1_putVal 287 = .ok (.aload_n 0, 1) := dk_42 (dk_at dksJ1_putVal_12 10 rfl rfl)
theorem dJ1_putVal_288 : decode cJ1_putVal 288 = .ok (.invokevirtual 117, 3) := dk_182 0 117 (dk_at dksJ1_putVal_12 11 rfl rfl)
theorem dJ1_putVal_291 : decode cJ1_putVal 291 = .ok (.pop, 1) := dk_87 (dk_at dksJ1_putVal_12 14 rfl rfl)
theorem dJ1_putVal_292 : decode cJ1_putVal 292 = .ok (.aload_n 0, 1) := dk_42 (dk_at dksJ1_putVal_12 15 rfl rfl)
theorem dJ1_putVal_293 : decode cJ1_putVal 293 = .ok (.iload 5, 2) := dk_21 5 (dk_at dksJ1_putVal_12 16 rfl rfl)
theorem dJ1_putVal_295 : decode cJ1_putVal 295 = .ok (.invokevirtual 205, 3) := dk_182 0 205 (dk_at dksJ1_putVal_12 18 rfl rfl)
theorem dJ1_putVal_298 : decode cJ1_putVal 298 = .ok (.aconst_null, 1) := dk_1 (dk_at dksJ1_putVal_12 21 rfl rfl)
theorem dJ1_putVal_299 : decode cJ1_putVal 299 = .ok (.areturn, 1) := dk_176 (dk_at dksJ1_putVal_12 22 rfl rfl)
/-! java/util/HashMap.putVal(ILjava/lang/Object;Ljava/lang/Object;ZZ)Ljava/lang/Object; -/
abbrev M_J1_putVal (z0 n0 : Nat) (s' : gS) : gM := (RJ1, cJ1_putVal, 13, (some (FieldType.object "java/lang/Object")), "putVal", [], 4, z0, n0, s'.2.1, s'.2.2)
abbrev W_J1_putVal (E : gE) (z0 n0 : Nat) (r : (Option Nat)) (s' : gS) (pc : Nat) (L : List (Nat × gV)) (st : List gV) (s : gS) : Prop := gW E (M_J1_putVal z0 n0 s') (gQm E (M_J1_putVal z0 n0 s') (.inl (some (vR r))) s') pc L st s
noncomputable def f_J1_putVal_292 (κ : gK) (F : Nat)  (l0 : Option Nat) (l5 : Int32) (s : gS) : Option ((Option Nat) × gS) :=
  gB1 (gck s l0 10) fun _ =>
  gB2 (f_J2_afterNodeInsertion κ F l0 l5 s) fun v2 s1 =>
  some (none, s1)
set_option maxHeartbeats 4000000 in
theorem w_J1_putVal_292 {E : gE} {F z0 n0 : Nat} {r : (Option Nat)} {s' : gS}   : ∀ (l0 : Option Nat) (l5 : Int32)  (s : gS), f_J1_putVal_292 (gk E) F  l0 l5 s = some (r, s') → W_J1_putVal E z0 n0 r s' 292 [(0, vR l0), (5, vI l5)] [] s := by
  intro l0 l5 s hB
  unfold f_J1_putVal_292 at hB
  refine gw_aload_n 0 rfl dJ1_putVal_292 ?_
  refine gw_iload 1 rfl dJ1_putVal_293 ?_
  obtain ⟨u0, hu3, hB⟩ := gB1_some hB
  obtain ⟨v2, s1, hv2, hB⟩ := gB2_some hB
  refine gw_callA (C := "java/util/LinkedHashMap") (owner := "java/util/HashMap") (x := ⟨"java/util/HashMap", "afterNodeInsertion", "(Z)V"⟩) (y := yJ2_afterNodeInsertion) (lw_app (lw_in (([Cond.methodLink "java/util/HashMap" 205 ⟨"java/util/HashMap", "afterNodeInsertion", "(Z)V"⟩, Cond.sameMethod "java/util/HashMap" "java/util/HashMap" "afterNodeInsertion" "(Z)V", Cond.selects "java/util/LinkedHashMap" ⟨"java/util/HashMap", "afterNodeInsertion", "(Z)V"⟩ yJ2_afterNodeInsertion, Cond.instanceMethod yJ2_afterNodeInsertion, Cond.initialized "java/util/LinkedHashMap"] : List Cond)) [1233, 1235, 1236, 1237, 114] (by decide +kernel) (by decide +kernel)) (lw_meth q1238)) q1243 (show _ ∧ _ ∧ _ = some 1 from by decide +kernel) gcl10 hu3 (As := [vI l5]) (rest := []) (m_J2_afterNodeInsertion _ _ _ _ _ hv2) (Nat.le_of_ble_eq_true rfl) (Nat.le_of_ble_eq_true rfl) rfl (Nat.le_of_ble_eq_true rfl) dJ1_putVal_295 (gCont_v ?_)
  refine gw_null dJ1_putVal_298 ?_
  obtain ⟨rfl, rfl⟩ := Prod.mk.inj (Option.some.inj hB)
  exact gw_aret rfl (Or.inl ⟨_, rfl⟩) rfl rfl dJ1_putVal_299
noncomputable def f_J1_putVal_259 (κ : gK) (F : Nat)  (l0 : Option Nat) (l5 : Int32) (s : gS) : Option ((Option Nat) × gS) :=
  gB1 (gfI s l0 10 3) fun v1 =>
  gB1 (gpf κ s l0 10 3 (.int (v1 + (1 : Int32)))) fun s2 =>
  gB1 (gfI s2 l0 10 2) fun v3 =>
  gB1 (gpf κ s2 l0 10 2 (.int (v3 + (1 : Int32)))) fun s4 =>
  gB1 (gfI s4 l0 10 4) fun v5 =>
  if (v3 + (1 : Int32)) ≤ v5 then
    f_J1_putVal_292 κ F  l0 l5 s4
  else
    gB1 (gck s4 l0 10) fun _ =>
    gB2 (f_J1_resize κ F l0  s4) fun v7 s6 =>
    f_J1_putVal_292 κ F  l0 l5 s6
set_option maxHeartbeats 4000000 in
theorem w_J1_putVal_259 {E : gE} {F z0 n0 : Nat} {r : (Option Nat)} {s' : gS}   : ∀ (l0 : Option Nat) (l5 : Int32)  (s : gS), f_J1_putVal_259 (gk E) F  l0 l5 s = some (r, s') → W_J1_putVal E z0 n0 r s' 259 [(0, vR l0), (5, vI l5)] [] s := by
  intro l0 l5 s hB
  unfold f_J1_putVal_259 at hB
  refine gw_aload_n 0 rfl dJ1_putVal_259 ?_
  refine gw_dup rfl dJ1_putVal_260 ?_
  obtain ⟨v1, hv1, hB⟩ := gB1_some hB
  refine gw_getf (C := RJ2) (T := TJ2) (N := 12) (k := 3) gcl10 (by decide) in_J2 q243 (gfI_spec hv1) dJ1_putVal_261 ?_
  refine gw_iconst (v := (1 : Int32)) (by decide) dJ1_putVal_264 ?_
  refine gw_iadd dJ1_putVal_265 ?_
  obtain ⟨s2, hs2, hB⟩ := gB1_some hB
  refine gw_putf (C := RJ2) (T := TJ2) (N := 12) (k := 3) tyJ2 tyJ2_ok nmJ2 gcl10 (by decide) in_J2 q243 rfl (tyJ2_ok 3 (by decide)) (gNF_i _) hs2 dJ1_putVal_266 ?_
  refine gw_aload_n 0 rfl dJ1_putVal_269 ?_
  refine gw_dup rfl dJ1_putVal_270 ?_
  obtain ⟨v3, hv3, hB⟩ := gB1_some hB
  refine gw_getf (C := RJ2) (T := TJ2) (N := 12) (k := 2) gcl10 (by decide) in_J2 q238 (gfI_spec hv3) dJ1_putVal_271 ?_
  refine gw_iconst (v := (1 : Int32)) (by decide) dJ1_putVal_274 ?_
  refine gw_iadd dJ1_putVal_275 ?_
  refine gw_dup_x1 rfl rfl dJ1_putVal_276 ?_
  obtain ⟨s4, hs4, hB⟩ := gB1_some hB
  refine gw_putf (C := RJ2) (T := TJ2) (N := 12) (k := 2) tyJ2 tyJ2_ok nmJ2 gcl10 (by decide) in_J2 q238 rfl (tyJ2_ok 2 (by decide)) (gNF_i _) hs4 dJ1_putVal_277 ?_
  refine gw_aload_n 0 rfl dJ1_putVal_280 ?_
  obtain ⟨v5, hv5, hB⟩ := gB1_some hB
  refine gw_getf (C := RJ2) (T := TJ2) (N := 12) (k := 4) gcl10 (by decide) in_J2 q244 (gfI_spec hv5) dJ1_putVal_281 ?_
  refine gw_icmp_le (tgt := 292) dJ1_putVal_284 (by decide) (fun hcnd => ?_) (fun hcnd => ?_)
  · rw [if_pos hcnd] at hB
    exact gw_sub [0, 1] rfl (w_J1_putVal_292  _ _ _ hB)
  · rw [if_neg hcnd] at hB
    refine gw_aload_n 0 rfl dJ1_putVal_287 ?_
    obtain ⟨u0, hu8, hB⟩ := gB1_some hB
    obtain ⟨v7, s6, hv7, hB⟩ := gB2_some hB
    refine gw_callU (C := "java/util/LinkedHashMap") (owner := "java/util/HashMap") (x := ⟨"java/util/HashMap", "resize", "()[Ljava/util/HashMap$Node;"⟩) (y := yJ1_resize) (lw_app (lw_in (([Cond.methodLink "java/util/HashMap" 117 ⟨"java/util/HashMap", "resize", "()[Ljava/util/HashMap$Node;"⟩, Cond.sameMethod "java/util/HashMap" "java/util/HashMap" "resize" "()[Ljava/util/HashMap$Node;", Cond.selects "java/util/LinkedHashMap" ⟨"java/util/HashMap", "resize", "()[Ljava/util/HashMap$Node;"⟩ yJ1_resize, Cond.instanceMethod yJ1_resize, Cond.initialized "java/util/HashMap"] : List Cond)) [759, 761, 762, 760, 113] (by decide +kernel) (by decide +kernel)) (lw_meth q763)) rfl (show _ ∧ _ ∧ _ = some 0 from by decide +kernel) gcl10 hu8 (As := []) (rest := []) (m_J1_resize _ _ _ _ hv7) (Nat.le_of_ble_eq_true rfl) (Nat.le_of_ble_eq_true rfl) rfl (Nat.le_of_ble_eq_true rfl) dJ1_putVal_288 (gCont_i ?_)
    refine gw_pop rfl dJ1_putVal_291 ?_
    exact gw_sub [0, 1] rfl (w_J1_putVal_292  _ _ _ hB)
noncomputable def f_J1_putVal_250 (κ : gK) (F : Nat)  (l0 : Option Nat) (l10 : Option Nat) (l12 : Option Nat) (s : gS) : Option ((Option Nat) × gS) :=
  gB1 (gck s l0 10) fun _ =>
  gB2 (f_J2_afterNodeAccess κ F l0 l10 s) fun v2 s1 =>
  some (l12, s1)
set_option maxHeartbeats 4000000 in
theorem w_J1_putVal_250 {E : gE} {F z0 n0 : Nat} {r : (Option Nat)} {s' : gS}   : ∀ (l0 : Option Nat) (l10 : Option Nat) (l12 : Option Nat)  (s : gS), f_J1_putVal_250 (gk E) F  l0 l10 l12 s = some (r, s') → W_J1_putVal E z0 n0 r s' 250 [(0, vR l0), (10, vR l10), (12, vR l12)] [] s := by
  intro l0 l10 l12 s hB
  unfold f_J1_putVal_250 at hB
  refine gw_aload_n 0 rfl dJ1_putVal_250 ?_
  refine gw_aload 1 rfl dJ1_putVal_251 ?_
  obtain ⟨u0, hu3, hB⟩ := gB1_some hB
  obtain ⟨v2, s1, hv2, hB⟩ := gB2_some hB
  refine gw_callA (C := "java/util/LinkedHashMap") (owner := "java/util/HashMap") (x := ⟨"java/util/HashMap", "afterNodeAccess", "(Ljava/util/HashMap$Node;)V"⟩) (y := yJ2_afterNodeAccess) (lw_app (lw_in (([Cond.methodLink "java/util/HashMap" 198 ⟨"java/util/HashMap", "afterNodeAccess", "(Ljava/util/HashMap$Node;)V"⟩, Cond.sameMethod "java/util/HashMap" "java/util/HashMap" "afterNodeAccess" "(Ljava/util/HashMap$Node;)V", Cond.selects "java/util/LinkedHashMap" ⟨"java/util/HashMap", "afterNodeAccess", "(Ljava/util/HashMap$Node;)V"⟩ yJ2_afterNodeAccess, Cond.instanceMethod yJ2_afterNodeAccess, Cond.initialized "java/util/LinkedHashMap"] : List Cond)) [1226, 1228, 1229, 1230, 114] (by decide +kernel) (by decide +kernel)) (lw_meth q1231)) q1232 (show _ ∧ _ ∧ _ = some 1 from by decide +kernel) gcl10 hu3 (As := [vR l10]) (rest := []) (m_J2_afterNodeAccess _ _ _ _ _ hv2) (Nat.le_of_ble_eq_true rfl) (Nat.le_of_ble_eq_true rfl) rfl (Nat.le_of_ble_eq_true rfl) dJ1_putVal_253 (gCont_v ?_)
  refine gw_aload 2 rfl dJ1_putVal_256 ?_
  obtain ⟨rfl, rfl⟩ := Prod.mk.inj (Option.some.inj hB)
  exact gw_aret rfl (Or.inl ⟨_, rfl⟩) rfl rfl dJ1_putVal_258
noncomputable def f_J1_putVal_244 (κ : gK) (F : Nat)  (l0 : Option Nat) (l3 : Option Nat) (l10 : Option Nat) (l12 : Option Nat) (s : gS) : Option ((Option Nat) × gS) :=
  gB1 (gpf κ s l10 11 2 (va_rf l3)) fun s1 =>
  f_J1_putVal_250 κ F  l0 l10 l12 s1
set_option maxHeartbeats 4000000 in
theorem w_J1_putVal_244 {E : gE} {F z0 n0 : Nat} {r : (Option Nat)} {s' : gS}   : ∀ (l0 : Option Nat) (l3 : Option Nat) (l10 : Option Nat) (l12 : Option Nat)  (s : gS), f_J1_putVal_244 (gk E) F  l0 l3 l10 l12 s = some (r, s') → W_J1_putVal E z0 n0 r s' 244 [(0, vR l0), (3, vR l3), (10, vR l10), (12, vR l12)] [] s := by
  intro l0 l3 l10 l12 s hB
  unfold f_J1_putVal_244 at hB
  refine gw_aload 2 rfl dJ1_putVal_244 ?_
  refine gw_aload_n 1 rfl dJ1_putVal_246 ?_
  obtain ⟨s1, hs1, hB⟩ := gB1_some hB
  refine gw_putf (C := RJ19) (T := TJ19) (N := 6) (k := 2) tyJ19 tyJ19_ok nmJ19 gcl11 (by decide) in_J19 q814 rfl (tyJ19_ok 2 (by decide)) (gNF_o _ _) hs1 dJ1_putVal_247 ?_
  exact gw_sub [0, 2, 3] rfl (w_J1_putVal_250  _ _ _ _ hB)
noncomputable def f_J1_putVal_222 (κ : gK) (F : Nat)  (l0 : Option Nat) (l3 : Option Nat) (l4 : Int32) (l5 : Int32) (l10 : Option Nat) (s : gS) : Option ((Option Nat) × gS) :=
  if l10 = none then
    f_J1_putVal_259 κ F  l0 l5 s
  else
    gB1 (gfR s l10 11 2) fun v1 =>
    if l4 = 0 then
      f_J1_putVal_244 κ F  l0 l3 l10 v1 s
    else
      if v1 = none then
        f_J1_putVal_244 κ F  l0 l3 l10 v1 s
      else
        f_J1_putVal_250 κ F  l0 l10 v1 s
set_option maxHeartbeats 4000000 in
theorem w_J1_putVal_222 {E : gE} {F z0 n0 : Nat} {r : (Option Nat)} {s' : gS}   : ∀ (l0 : Option Nat) (l3 : Option Nat) (l4 : Int32) (l5 : Int32) (l10 : Option Nat)  (s : gS), f_J1_putVal_222 (gk E) F  l0 l3 l4 l5 l10 s = some (r, s') → W_J1_putVal E z0 n0 r s' 222 [(0, vR l0), (3, vR l3), (4, vI l4), (5, vI l5), (10, vR l10)] [] s := by
  intro l0 l3 l4 l5 l10 s hB
  unfold f_J1_putVal_222 at hB
  refine gw_aload 4 rfl dJ1_putVal_222 ?_
  refine gw_ifnull (tgt := 259) dJ1_putVal_224 (by decide) (fun hcnd => ?_) (fun hcnd => ?_)
  · rw [if_pos hcnd] at hB
    exact gw_sub [0, 3] rfl (w_J1_putVal_259  _ _ _ hB)
  · rw [if_neg hcnd] at hB
    refine gw_aload 4 rfl dJ1_putVal_227 ?_
    obtain ⟨v1, hv1, hB⟩ := gB1_some hB
    refine gw_getf (C := RJ19) (T := TJ19) (N := 6) (k := 2) gcl11 (by decide) in_J19 q814 (gfR_spec hv1) dJ1_putVal_229 ?_
    refine gw_astore (L' := [(12, vR v1), (0, vR l0), (3, vR l3), (4, vI l4), (5, vI l5), (10, vR l10)]) (Nat.le_of_ble_eq_true rfl) rfl dJ1_putVal_232 ?_
    refine gw_iload 3 rfl dJ1_putVal_234 ?_
    refine gw_if_eq (tgt := 244) dJ1_putVal_236 (by decide) (fun hcnd => ?_) (fun hcnd => ?_)
    · rw [if_pos hcnd] at hB
      exact gw_sub [1, 2, 5, 0] rfl (w_J1_putVal_244  _ _ _ _ _ hB)
    · rw [if_neg hcnd] at hB
      refine gw_aload 0 rfl dJ1_putVal_239 ?_
      refine gw_ifnonnull (tgt := 250) dJ1_putVal_241 (by decide) (fun hcnd => ?_) (fun hcnd => ?_)
      · rw [if_neg hcnd] at hB
        exact gw_sub [1, 5, 0] rfl (w_J1_putVal_250  _ _ _ _ hB)
      · rw [if_pos hcnd] at hB
        exact gw_sub [1, 2, 5, 0] rfl (w_J1_putVal_244  _ _ _ _ _ hB)
noncomputable def f_J1_putVal_97 (κ : gK) (F : Nat)  (l0 : Option Nat) (l3 : Option Nat) (l4 : Int32) (l5 : Int32) (l7 : Option Nat) (s : gS) : Option ((Option Nat) × gS) :=
  f_J1_putVal_222 κ F  l0 l3 l4 l5 l7 s
set_option maxHeartbeats 4000000 in
theorem w_J1_putVal_97 {E : gE} {F z0 n0 : Nat} {r : (Option Nat)} {s' : gS}   : ∀ (l0 : Option Nat) (l3 : Option Nat) (l4 : Int32) (l5 : Int32) (l7 : Option Nat)  (s : gS), f_J1_putVal_97 (gk E) F  l0 l3 l4 l5 l7 s = some (r, s') → W_J1_putVal E z0 n0 r s' 97 [(0, vR l0), (3, vR l3), (4, vI l4), (5, vI l5), (7, vR l7)] [] s := by
  intro l0 l3 l4 l5 l7 s hB
  unfold f_J1_putVal_97 at hB
  refine gw_aload 4 rfl dJ1_putVal_97 ?_
  refine gw_astore (L' := [(10, vR l7), (0, vR l0), (3, vR l3), (4, vI l4), (5, vI l5), (7, vR l7)]) (Nat.le_of_ble_eq_true rfl) rfl dJ1_putVal_99 ?_
  refine gw_goto (tgt := 222) dJ1_putVal_101 (by decide) ?_
  exact gw_sub [1, 2, 3, 4, 0] rfl (w_J1_putVal_222  _ _ _ _ _ _ hB)
noncomputable def f_J1_putVal_212 (κ : gK) (F : Nat) (k134 : Option Nat → Int32 → Option Nat → Option Nat → Int32 → Int32 → Option Nat → Option Nat → Int32 → gS → Option ((Option Nat) × gS)) (l0 : Option Nat) (l1 : Int32) (l2 : Option Nat) (l3 : Option Nat) (l4 : Int32) (l5 : Int32) (l6 : Option Nat) (l10 : Option Nat) (l12 : Int32) (s : gS) : Option ((Option Nat) × gS) :=
  k134 l0 l1 l2 l3 l4 l5 l6 l10 (l12 + (1 : Int32)) s
set_option maxHeartbeats 4000000 in
theorem w_J1_putVal_212 {E : gE} {F z0 n0 : Nat} {r : (Option Nat)} {s' : gS} {k134 : Option Nat → Int32 → Option Nat → Option Nat → Int32 → Int32 → Option Nat → Option Nat → Int32 → gS → Option ((Option Nat) × gS)} (hk134 : ∀ (l0 : Option Nat) (l1 : Int32) (l2 : Option Nat) (l3 : Option Nat) (l4 : Int32) (l5 : Int32) (l6 : Option Nat) (l7 : Option Nat) (l12 : Int32) (s : gS), k134 l0 l1 l2 l3 l4 l5 l6 l7 l12 s = some (r, s') → W_J1_putVal E z0 n0 r s' 134 [(0, vR l0), (1, vI l1), (2, vR l2), (3, vR l3), (4, vI l4), (5, vI l5), (6, vR l6), (7, vR l7), (12, vI l12)] [] s) : ∀ (l0 : Option Nat) (l1 : Int32) (l2 : Option Nat) (l3 : Option Nat) (l4 : Int32) (l5 : Int32) (l6 : Option Nat) (l10 : Option Nat) (l12 : Int32)  (s : gS), f_J1_putVal_212 (gk E) F k134 l0 l1 l2 l3 l4 l5 l6 l10 l12 s = some (r, s') → W_J1_putVal E z0 n0 r s' 212 [(0, vR l0), (1, vI l1), (2, vR l2), (3, vR l3), (4, vI l4), (5, vI l5), (6, vR l6), (10, vR l10), (12, vI l12)] [] s := by
  intro l0 l1 l2 l3 l4 l5 l6 l10 l12 s hB
  unfold f_J1_putVal_212 at hB
  refine gw_aload 7 rfl dJ1_putVal_212 ?_
  refine gw_astore (L' := [(7, vR l10), (0, vR l0), (1, vI l1), (2, vR l2), (3, vR l3), (4, vI l4), (5, vI l5), (6, vR l6), (10, vR l10), (12, vI l12)]) (Nat.le_of_ble_eq_true rfl) rfl dJ1_putVal_214 ?_
  refine gw_iinc (w := (1 : Int32)) (L' := [(12, vI (l12 + (1 : Int32))), (7, vR l10), (0, vR l0), (1, vI l1), (2, vR l2), (3, vR l3), (4, vI l4), (5, vI l5), (6, vR l6), (10, vR l10)]) 9 rfl (by decide) (Nat.le_of_ble_eq_true rfl) rfl dJ1_putVal_216 ?_
  refine gw_goto (tgt := 134) dJ1_putVal_219 (by decide) ?_
  exact gw_sub [2, 3, 4, 5, 6, 7, 8, 1, 0] rfl (hk134 _ _ _ _ _ _ _ _ _ _ hB)
noncomputable def f_J1_putVal_134b (κ : gK) (F : Nat) (k134 : Option Nat → Int32 → Option Nat → Option Nat → Int32 → Int32 → Option Nat → Option Nat → Int32 → gS → Option ((Option Nat) × gS)) (l0 : Option Nat) (l1 : Int32) (l2 : Option Nat) (l3 : Option Nat) (l4 : Int32) (l5 : Int32) (l6 : Option Nat) (l7 : Option Nat) (l12 : Int32) (s : gS) : Option ((Option Nat) × gS) :=
  gB1 (gfR s l7 11 3) fun v1 =>
  if v1 = none then
    gB1 (gck s l0 10) fun _ =>
    gB2 (f_J2_newNode κ F l0 l1 l2 l3 none s) fun v8 s7 =>
    gB1 (gpf κ s7 l7 11 3 (va_rf v8)) fun s10 =>
    if l12 < (7 : Int32) then
      f_J1_putVal_222 κ F  l0 l3 l4 l5 v1 s10
    else
      none
  else
    gB1 (gfI s v1 11 0) fun v2 =>
    if v2 = l1 then
      gB1 (gfR s v1 11 1) fun v3 =>
      if v3 = l2 then
        f_J1_putVal_222 κ F  l0 l3 l4 l5 v1 s
      else
        if l2 = none then
          f_J1_putVal_212 κ F k134 l0 l1 l2 l3 l4 l5 l6 v1 l12 s
        else
          gB1 (gck s l2 1) fun _ =>
          gB2 (f_X2_equals κ F l2 v3 s) fun v5 s4 =>
          if v5 = 0 then
            f_J1_putVal_212 κ F k134 l0 l1 l2 l3 l4 l5 l6 v1 l12 s4
          else
            f_J1_putVal_222 κ F  l0 l3 l4 l5 v1 s4
    else
      f_J1_putVal_212 κ F k134 l0 l1 l2 l3 l4 l5 l6 v1 l12 s
noncomputable def f_J1_putVal_134 (κ : gK) (F : Nat)  : Nat → Option Nat → Int32 → Option Nat → Option Nat → Int32 → Int32 → Option Nat → Option Nat → Int32 → gS → Option ((Option Nat) × gS)
  | 0 => fun _ _ _ _ _ _ _ _ _ _ => none
  | n + 1 => f_J1_putVal_134b κ F  (f_J1_putVal_134 κ F  n)
set_option maxHeartbeats 4000000 in
theorem w_J1_putVal_134b {E : gE} {F z0 n0 : Nat} {r : (Option Nat)} {s' : gS} {k134 : Option Nat → Int32 → Option Nat → Option Nat → Int32 → Int32 → Option Nat → Option Nat → Int32 → gS → Option ((Option Nat) × gS)} (hk134 : ∀ (l0 : Option Nat) (l1 : Int32) (l2 : Option Nat) (l3 : Option Nat) (l4 : Int32) (l5 : Int32) (l6 : Option Nat) (l7 : Option Nat) (l12 : Int32) (s : gS), k134 l0 l1 l2 l3 l4 l5 l6 l7 l12 s = some (r, s') → W_J1_putVal E z0 n0 r s' 134 [(0, vR l0), (1, vI l1), (2, vR l2), (3, vR l3), (4, vI l4), (5, vI l5), (6, vR l6), (7, vR l7), (12, vI l12)] [] s) : ∀ (l0 : Option Nat) (l1 : Int32) (l2 : Option Nat) (l3 : Option Nat) (l4 : Int32) (l5 : Int32) (l6 : Option Nat) (l7 : Option Nat) (l12 : Int32)  (s : gS), f_J1_putVal_134b (gk E) F k134 l0 l1 l2 l3 l4 l5 l6 l7 l12 s = some (r, s') → W_J1_putVal E z0 n0 r s' 134 [(0, vR l0), (1, vI l1), (2, vR l2), (3, vR l3), (4, vI l4), (5, vI l5), (6, vR l6), (7, vR l7), (12, vI l12)] [] s := by
  intro l0 l1 l2 l3 l4 l5 l6 l7 l12 s hB
  unfold f_J1_putVal_134b at hB
  refine gw_aload 7 rfl dJ1_putVal_134 ?_
  obtain ⟨v1, hv1, hB⟩ := gB1_some hB
  refine gw_getf (C := RJ19) (T := TJ19) (N := 6) (k := 3) gcl11 (by decide) in_J19 q821 (gfR_spec hv1) dJ1_putVal_136 ?_
  refine gw_dup rfl dJ1_putVal_139 ?_
  refine gw_astore (L' := [(10, vR v1), (0, vR l0), (1, vI l1), (2, vR l2), (3, vR l3), (4, vI l4), (5, vI l5), (6, vR l6), (7, vR l7), (12, vI l12)]) (Nat.le_of_ble_eq_true rfl) rfl dJ1_putVal_140 ?_
  refine gw_ifnonnull (tgt := 175) dJ1_putVal_142 (by decide) (fun hcnd => ?_) (fun hcnd => ?_)
  · rw [if_neg hcnd] at hB
    refine gw_aload 0 rfl dJ1_putVal_175 ?_
    obtain ⟨v2, hv2, hB⟩ := gB1_some hB
    refine gw_getf (C := RJ19) (T := TJ19) (N := 6) (k := 0) gcl11 (by decide) in_J19 q803 (gfI_spec hv2) dJ1_putVal_177 ?_
    refine gw_iload_n 2 rfl dJ1_putVal_180 ?_
    refine gw_icmp_ne (tgt := 212) dJ1_putVal_181 (by decide) (fun hcnd => ?_) (fun hcnd => ?_)
    · rw [if_neg hcnd] at hB
      exact gw_sub [1, 2, 3, 4, 5, 6, 7, 0, 9] rfl (w_J1_putVal_212 hk134 _ _ _ _ _ _ _ _ _ _ hB)
    · rw [if_pos hcnd] at hB
      refine gw_aload 0 rfl dJ1_putVal_184 ?_
      obtain ⟨v3, hv3, hB⟩ := gB1_some hB
      refine gw_getf (C := RJ19) (T := TJ19) (N := 6) (k := 1) gcl11 (by decide) in_J19 q810 (gfR_spec hv3) dJ1_putVal_186 ?_
      refine gw_dup rfl dJ1_putVal_189 ?_
      refine gw_astore (L' := [(11, vR v3), (10, vR v1), (0, vR l0), (1, vI l1), (2, vR l2), (3, vR l3), (4, vI l4), (5, vI l5), (6, vR l6), (7, vR l7), (12, vI l12)]) (Nat.le_of_ble_eq_true rfl) rfl dJ1_putVal_190 ?_
      refine gw_aload_n 4 rfl dJ1_putVal_192 ?_
      refine gw_acmp_eq (tgt := 222) dJ1_putVal_193 (by decide) (fun hcnd => ?_) (fun hcnd => ?_)
      · rw [if_pos hcnd] at hB
        exact gw_sub [2, 5, 6, 7, 1] rfl (w_J1_putVal_222  _ _ _ _ _ _ hB)
      · rw [if_neg hcnd] at hB
        refine gw_aload_n 4 rfl dJ1_putVal_196 ?_
        refine gw_ifnull (tgt := 212) dJ1_putVal_197 (by decide) (fun hcnd => ?_) (fun hcnd => ?_)
        · rw [if_pos hcnd] at hB
          exact gw_sub [2, 3, 4, 5, 6, 7, 8, 1, 10] rfl (w_J1_putVal_212 hk134 _ _ _ _ _ _ _ _ _ _ hB)
        · rw [if_neg hcnd] at hB
          refine gw_aload_n 4 rfl dJ1_putVal_200 ?_
          refine gw_aload 0 rfl dJ1_putVal_201 ?_
          obtain ⟨u0, hu6, hB⟩ := gB1_some hB
          obtain ⟨v5, s4, hv5, hB⟩ := gB2_some hB
          refine gw_callA (C := "PageGarden$Bed") (owner := "java/lang/Object") (x := ⟨"java/lang/Object", "equals", "(Ljava/lang/Object;)Z"⟩) (y := yX2_equals) (lw_app (lw_in (([Cond.methodLink "java/util/HashMap" 173 ⟨"java/lang/Object", "equals", "(Ljava/lang/Object;)Z"⟩, Cond.sameMethod "java/lang/Object" "java/lang/Object" "equals" "(Ljava/lang/Object;)Z", Cond.selects "PageGarden$Bed" ⟨"java/lang/Object", "equals", "(Ljava/lang/Object;)Z"⟩ yX2_equals, Cond.instanceMethod yX2_equals, Cond.initialized "PageGarden$Bed"] : List Cond)) [1127, 1129, 1131, 1132, 109] (by decide +kernel) (by decide +kernel)) (lw_meth q1133)) q1126 (show _ ∧ _ ∧ _ = some 1 from by decide +kernel) gcl1 hu6 (As := [vR v3]) (rest := []) (m_X2_equals _ _ _ _ _ hv5) (Nat.le_of_ble_eq_true rfl) (Nat.le_of_ble_eq_true rfl) rfl (Nat.le_of_ble_eq_true rfl) dJ1_putVal_203 (gCont_i ?_)
          refine gw_if_eq (tgt := 212) dJ1_putVal_206 (by decide) (fun hcnd => ?_) (fun hcnd => ?_)
          · rw [if_pos hcnd] at hB
            exact gw_sub [2, 3, 4, 5, 6, 7, 8, 1, 10] rfl (w_J1_putVal_212 hk134 _ _ _ _ _ _ _ _ _ _ hB)
          · rw [if_neg hcnd] at hB
            refine gw_goto (tgt := 222) dJ1_putVal_209 (by decide) ?_
            exact gw_sub [2, 5, 6, 7, 1] rfl (w_J1_putVal_222  _ _ _ _ _ _ hB)
  · rw [if_pos hcnd] at hB
    refine gw_aload 8 rfl dJ1_putVal_145 ?_
    refine gw_aload_n 1 rfl dJ1_putVal_147 ?_
    refine gw_iload_n 2 rfl dJ1_putVal_148 ?_
    refine gw_aload_n 3 rfl dJ1_putVal_149 ?_
    refine gw_aload_n 4 rfl dJ1_putVal_150 ?_
    refine gw_null dJ1_putVal_151 ?_
    obtain ⟨u0, hu9, hB⟩ := gB1_some hB
    obtain ⟨v8, s7, hv8, hB⟩ := gB2_some hB
    refine gw_callA (C := "java/util/LinkedHashMap") (owner := "java/util/HashMap") (x := ⟨"java/util/HashMap", "newNode", "(ILjava/lang/Object;Ljava/lang/Object;Ljava/util/HashMap$Node;)Ljava/util/HashMap$Node;"⟩) (y := yJ2_newNode) (lw_app (lw_in (([Cond.methodLink "java/util/HashMap" 186 ⟨"java/util/HashMap", "newNode", "(ILjava/lang/Object;Ljava/lang/Object;Ljava/util/HashMap$Node;)Ljava/util/HashMap$Node;"⟩, Cond.sameMethod "java/util/HashMap" "java/util/HashMap" "newNode" "(ILjava/lang/Object;Ljava/lang/Object;Ljava/util/HashMap$Node;)Ljava/util/HashMap$Node;", Cond.selects "java/util/LinkedHashMap" ⟨"java/util/HashMap", "newNode", "(ILjava/lang/Object;Ljava/lang/Object;Ljava/util/HashMap$Node;)Ljava/util/HashMap$Node;"⟩ yJ2_newNode, Cond.instanceMethod yJ2_newNode, Cond.initialized "java/util/LinkedHashMap"] : List Cond)) [1115, 1117, 1118, 1119, 114] (by decide +kernel) (by decide +kernel)) (lw_meth q1120)) q1125 (show _ ∧ _ ∧ _ = some 4 from by decide +kernel) gcl10 hu9 (As := [vI l1, vR l2, vR l3, vR none]) (rest := [vR l7]) (m_J2_newNode _ _ _ _ _ _ _ _ hv8) (Nat.le_of_ble_eq_true rfl) (Nat.le_of_ble_eq_true rfl) rfl (Nat.le_of_ble_eq_true rfl) dJ1_putVal_152 (gCont_i ?_)
    obtain ⟨s10, hs10, hB⟩ := gB1_some hB
    refine gw_putf (C := RJ19) (T := TJ19) (N := 6) (k := 3) tyJ19 tyJ19_ok nmJ19 gcl11 (by decide) in_J19 q821 rfl (tyJ19_ok 3 (by decide)) (gNF_o _ _) hs10 dJ1_putVal_155 ?_
    refine gw_iload 9 rfl dJ1_putVal_158 ?_
    refine gw_bipush (v := (7 : Int32)) (by decide) dJ1_putVal_160 ?_
    refine gw_icmp_lt (tgt := 222) dJ1_putVal_162 (by decide) (fun hcnd => ?_) (fun hcnd => ?_)
    · rw [if_pos hcnd] at hB
      exact gw_sub [1, 4, 5, 6, 0] rfl (w_J1_putVal_222  _ _ _ _ _ _ hB)
    · rw [if_neg hcnd] at hB
      refine gw_aload_n 1 rfl dJ1_putVal_165 ?_
      refine gw_aload 7 rfl dJ1_putVal_166 ?_
      refine gw_iload_n 2 rfl dJ1_putVal_168 ?_
      cases hB
theorem w_J1_putVal_134 {E : gE} {F z0 n0 : Nat} {r : (Option Nat)} {s' : gS}   : ∀ (n : Nat) (l0 : Option Nat) (l1 : Int32) (l2 : Option Nat) (l3 : Option Nat) (l4 : Int32) (l5 : Int32) (l6 : Option Nat) (l7 : Option Nat) (l12 : Int32)  (s : gS), f_J1_putVal_134 (gk E) F  n l0 l1 l2 l3 l4 l5 l6 l7 l12 s = some (r, s') → W_J1_putVal E z0 n0 r s' 134 [(0, vR l0), (1, vI l1), (2, vR l2), (3, vR l3), (4, vI l4), (5, vI l5), (6, vR l6), (7, vR l7), (12, vI l12)] [] s := by
  intro n
  induction n with
  | zero => intro l0 l1 l2 l3 l4 l5 l6 l7 l12 s hB; cases hB
  | succ n ih => intro l0 l1 l2 l3 l4 l5 l6 l7 l12 s hB; exact w_J1_putVal_134b ih l0 l1 l2 l3 l4 l5 l6 l7 l12 s hB
noncomputable def f_J1_putVal_104 (κ : gK) (F : Nat)  (l0 : Option Nat) (l1 : Int32) (l2 : Option Nat) (l3 : Option Nat) (l4 : Int32) (l5 : Int32) (l6 : Option Nat) (l7 : Option Nat) (s : gS) : Option ((Option Nat) × gS) :=
  gB1 (gio s l7 [] [11]) fun v1 =>
  if v1 = 0 then
    f_J1_putVal_134 κ F  F l0 l1 l2 l3 l4 l5 l6 l7 (0 : Int32) s
  else
    none
set_option maxHeartbeats 4000000 in
theorem w_J1_putVal_104 {E : gE} {F z0 n0 : Nat} {r : (Option Nat)} {s' : gS}   : ∀ (l0 : Option Nat) (l1 : Int32) (l2 : Option Nat) (l3 : Option Nat) (l4 : Int32) (l5 : Int32) (l6 : Option Nat) (l7 : Option Nat)  (s : gS), f_J1_putVal_104 (gk E) F  l0 l1 l2 l3 l4 l5 l6 l7 s = some (r, s') → W_J1_putVal E z0 n0 r s' 104 [(0, vR l0), (1, vI l1), (2, vR l2), (3, vR l3), (4, vI l4), (5, vI l5), (6, vR l6), (7, vR l7)] [] s := by
  intro l0 l1 l2 l3 l4 l5 l6 l7 s hB
  unfold f_J1_putVal_104 at hB
  refine gw_aload 7 rfl dJ1_putVal_104 ?_
  obtain ⟨v1, hv1, hB⟩ := gB1_some hB
  refine gw_inst (ys := []) (ns := [11]) gisY_java_util_HashMap_TreeNode gisN_java_util_HashMap_TreeNode hv1 q769 dJ1_putVal_106 ?_
  refine gw_if_eq (tgt := 131) dJ1_putVal_109 (by decide) (fun hcnd => ?_) (fun hcnd => ?_)
  · rw [if_pos hcnd] at hB
    refine gw_iconst (v := (0 : Int32)) (by decide) dJ1_putVal_131 ?_
    refine gw_istore (L' := [(12, vI (0 : Int32)), (0, vR l0), (1, vI l1), (2, vR l2), (3, vR l3), (4, vI l4), (5, vI l5), (6, vR l6), (7, vR l7)]) (Nat.le_of_ble_eq_true rfl) rfl dJ1_putVal_132 ?_
    exact gw_sub [1, 2, 3, 4, 5, 6, 7, 8, 0] rfl (w_J1_putVal_134  F _ _ _ _ _ _ _ _ _ _ hB)
  · rw [if_neg hcnd] at hB
    refine gw_aload 7 rfl dJ1_putVal_112 ?_
    cases hB
noncomputable def f_J1_putVal_29 (κ : gK) (F : Nat)  (l0 : Option Nat) (l1 : Int32) (l2 : Option Nat) (l3 : Option Nat) (l4 : Int32) (l5 : Int32) (l6 : Option Nat) (l8 : Int32) (s : gS) : Option ((Option Nat) × gS) :=
  gB1 (gaR s l6 ((l8 - (1 : Int32)) &&& l1)) fun v1 =>
  if v1 = none then
    gB1 (gck s l0 10) fun _ =>
    gB2 (f_J2_newNode κ F l0 l1 l2 l3 none s) fun v8 s7 =>
    gB1 (gsR κ s7 l6 ((l8 - (1 : Int32)) &&& l1) v8) fun s10 =>
    f_J1_putVal_259 κ F  l0 l5 s10
  else
    gB1 (gfI s v1 11 0) fun v2 =>
    if v2 = l1 then
      gB1 (gfR s v1 11 1) fun v3 =>
      if v3 = l2 then
        f_J1_putVal_97 κ F  l0 l3 l4 l5 v1 s
      else
        if l2 = none then
          f_J1_putVal_104 κ F  l0 l1 l2 l3 l4 l5 l6 v1 s
        else
          gB1 (gck s l2 1) fun _ =>
          gB2 (f_X2_equals κ F l2 v3 s) fun v5 s4 =>
          if v5 = 0 then
            f_J1_putVal_104 κ F  l0 l1 l2 l3 l4 l5 l6 v1 s4
          else
            f_J1_putVal_97 κ F  l0 l3 l4 l5 v1 s4
    else
      f_J1_putVal_104 κ F  l0 l1 l2 l3 l4 l5 l6 v1 s
set_option maxHeartbeats 4000000 in
theorem w_J1_putVal_29 {E : gE} {F z0 n0 : Nat} {r : (Option Nat)} {s' : gS}   : ∀ (l0 : Option Nat) (l1 : Int32) (l2 : Option Nat) (l3 : Option Nat) (l4 : Int32) (l5 : Int32) (l6 : Option Nat) (l8 : Int32)  (s : gS), f_J1_putVal_29 (gk E) F  l0 l1 l2 l3 l4 l5 l6 l8 s = some (r, s') → W_J1_putVal E z0 n0 r s' 29 [(0, vR l0), (1, vI l1), (2, vR l2), (3, vR l3), (4, vI l4), (5, vI l5), (6, vR l6), (8, vI l8)] [] s := by
  intro l0 l1 l2 l3 l4 l5 l6 l8 s hB
  unfold f_J1_putVal_29 at hB
  refine gw_aload 6 rfl dJ1_putVal_29 ?_
  refine gw_iload 7 rfl dJ1_putVal_31 ?_
  refine gw_iconst (v := (1 : Int32)) (by decide) dJ1_putVal_33 ?_
  refine gw_isub dJ1_putVal_34 ?_
  refine gw_iload_n 1 rfl dJ1_putVal_35 ?_
  refine gw_iand dJ1_putVal_36 ?_
  refine gw_dup rfl dJ1_putVal_37 ?_
  refine gw_istore (L' := [(9, vI ((l8 - (1 : Int32)) &&& l1)), (0, vR l0), (1, vI l1), (2, vR l2), (3, vR l3), (4, vI l4), (5, vI l5), (6, vR l6), (8, vI l8)]) (Nat.le_of_ble_eq_true rfl) rfl dJ1_putVal_38 ?_
  obtain ⟨v1, hv1, hB⟩ := gB1_some hB
  refine gw_aaload hv1 dJ1_putVal_40 ?_
  refine gw_dup rfl dJ1_putVal_41 ?_
  refine gw_astore (L' := [(7, vR v1), (9, vI ((l8 - (1 : Int32)) &&& l1)), (0, vR l0), (1, vI l1), (2, vR l2), (3, vR l3), (4, vI l4), (5, vI l5), (6, vR l6), (8, vI l8)]) (Nat.le_of_ble_eq_true rfl) rfl dJ1_putVal_42 ?_
  refine gw_ifnonnull (tgt := 63) dJ1_putVal_44 (by decide) (fun hcnd => ?_) (fun hcnd => ?_)
  · rw [if_neg hcnd] at hB
    refine gw_aload 0 rfl dJ1_putVal_63 ?_
    obtain ⟨v2, hv2, hB⟩ := gB1_some hB
    refine gw_getf (C := RJ19) (T := TJ19) (N := 6) (k := 0) gcl11 (by decide) in_J19 q803 (gfI_spec hv2) dJ1_putVal_65 ?_
    refine gw_iload_n 3 rfl dJ1_putVal_68 ?_
    refine gw_icmp_ne (tgt := 104) dJ1_putVal_69 (by decide) (fun hcnd => ?_) (fun hcnd => ?_)
    · rw [if_neg hcnd] at hB
      exact gw_sub [2, 3, 4, 5, 6, 7, 8, 0] rfl (w_J1_putVal_104  _ _ _ _ _ _ _ _ _ hB)
    · rw [if_pos hcnd] at hB
      refine gw_aload 0 rfl dJ1_putVal_72 ?_
      obtain ⟨v3, hv3, hB⟩ := gB1_some hB
      refine gw_getf (C := RJ19) (T := TJ19) (N := 6) (k := 1) gcl11 (by decide) in_J19 q810 (gfR_spec hv3) dJ1_putVal_74 ?_
      refine gw_dup rfl dJ1_putVal_77 ?_
      refine gw_astore (L' := [(11, vR v3), (7, vR v1), (9, vI ((l8 - (1 : Int32)) &&& l1)), (0, vR l0), (1, vI l1), (2, vR l2), (3, vR l3), (4, vI l4), (5, vI l5), (6, vR l6), (8, vI l8)]) (Nat.le_of_ble_eq_true rfl) rfl dJ1_putVal_78 ?_
      refine gw_aload_n 5 rfl dJ1_putVal_80 ?_
      refine gw_acmp_eq (tgt := 97) dJ1_putVal_81 (by decide) (fun hcnd => ?_) (fun hcnd => ?_)
      · rw [if_pos hcnd] at hB
        exact gw_sub [3, 6, 7, 8, 1] rfl (w_J1_putVal_97  _ _ _ _ _ _ hB)
      · rw [if_neg hcnd] at hB
        refine gw_aload_n 5 rfl dJ1_putVal_84 ?_
        refine gw_ifnull (tgt := 104) dJ1_putVal_85 (by decide) (fun hcnd => ?_) (fun hcnd => ?_)
        · rw [if_pos hcnd] at hB
          exact gw_sub [3, 4, 5, 6, 7, 8, 9, 1] rfl (w_J1_putVal_104  _ _ _ _ _ _ _ _ _ hB)
        · rw [if_neg hcnd] at hB
          refine gw_aload_n 5 rfl dJ1_putVal_88 ?_
          refine gw_aload 0 rfl dJ1_putVal_89 ?_
          obtain ⟨u0, hu6, hB⟩ := gB1_some hB
          obtain ⟨v5, s4, hv5, hB⟩ := gB2_some hB
          refine gw_callA (C := "PageGarden$Bed") (owner := "java/lang/Object") (x := ⟨"java/lang/Object", "equals", "(Ljava/lang/Object;)Z"⟩) (y := yX2_equals) (lw_app (lw_in (([Cond.methodLink "java/util/HashMap" 173 ⟨"java/lang/Object", "equals", "(Ljava/lang/Object;)Z"⟩, Cond.sameMethod "java/lang/Object" "java/lang/Object" "equals" "(Ljava/lang/Object;)Z", Cond.selects "PageGarden$Bed" ⟨"java/lang/Object", "equals", "(Ljava/lang/Object;)Z"⟩ yX2_equals, Cond.instanceMethod yX2_equals, Cond.initialized "PageGarden$Bed"] : List Cond)) [1127, 1129, 1131, 1132, 109] (by decide +kernel) (by decide +kernel)) (lw_meth q1133)) q1126 (show _ ∧ _ ∧ _ = some 1 from by decide +kernel) gcl1 hu6 (As := [vR v3]) (rest := []) (m_X2_equals _ _ _ _ _ hv5) (Nat.le_of_ble_eq_true rfl) (Nat.le_of_ble_eq_true rfl) rfl (Nat.le_of_ble_eq_true rfl) dJ1_putVal_91 (gCont_i ?_)
          refine gw_if_eq (tgt := 104) dJ1_putVal_94 (by decide) (fun hcnd => ?_) (fun hcnd => ?_)
          · rw [if_pos hcnd] at hB
            exact gw_sub [3, 4, 5, 6, 7, 8, 9, 1] rfl (w_J1_putVal_104  _ _ _ _ _ _ _ _ _ hB)
          · rw [if_neg hcnd] at hB
            exact gw_sub [3, 6, 7, 8, 1] rfl (w_J1_putVal_97  _ _ _ _ _ _ hB)
  · rw [if_pos hcnd] at hB
    refine gw_aload 8 rfl dJ1_putVal_47 ?_
    refine gw_iload 1 rfl dJ1_putVal_49 ?_
    refine gw_aload_n 2 rfl dJ1_putVal_51 ?_
    refine gw_iload_n 3 rfl dJ1_putVal_52 ?_
    refine gw_aload_n 4 rfl dJ1_putVal_53 ?_
    refine gw_aload_n 5 rfl dJ1_putVal_54 ?_
    refine gw_null dJ1_putVal_55 ?_
    obtain ⟨u0, hu9, hB⟩ := gB1_some hB
    obtain ⟨v8, s7, hv8, hB⟩ := gB2_some hB
    refine gw_callA (C := "java/util/LinkedHashMap") (owner := "java/util/HashMap") (x := ⟨"java/util/HashMap", "newNode", "(ILjava/lang/Object;Ljava/lang/Object;Ljava/util/HashMap$Node;)Ljava/util/HashMap$Node;"⟩) (y := yJ2_newNode) (lw_app (lw_in (([Cond.methodLink "java/util/HashMap" 186 ⟨"java/util/HashMap", "newNode", "(ILjava/lang/Object;Ljava/lang/Object;Ljava/util/HashMap$Node;)Ljava/util/HashMap$Node;"⟩, Cond.sameMethod "java/util/HashMap" "java/util/HashMap" "newNode" "(ILjava/lang/Object;Ljava/lang/Object;Ljava/util/HashMap$Node;)Ljava/util/HashMap$Node;", Cond.selects "java/util/LinkedHashMap" ⟨"java/util/HashMap", "newNode", "(ILjava/lang/Object;Ljava/lang/Object;Ljava/util/HashMap$Node;)Ljava/util/HashMap$Node;"⟩ yJ2_newNode, Cond.instanceMethod yJ2_newNode, Cond.initialized "java/util/LinkedHashMap"] : List Cond)) [1115, 1117, 1118, 1119, 114] (by decide +kernel) (by decide +kernel)) (lw_meth q1120)) q1125 (show _ ∧ _ ∧ _ = some 4 from by decide +kernel) gcl10 hu9 (As := [vI l1, vR l2, vR l3, vR none]) (rest := [vI ((l8 - (1 : Int32)) &&& l1), vR l6]) (m_J2_newNode _ _ _ _ _ _ _ _ hv8) (Nat.le_of_ble_eq_true rfl) (Nat.le_of_ble_eq_true rfl) rfl (Nat.le_of_ble_eq_true rfl) dJ1_putVal_56 (gCont_i ?_)
    obtain ⟨s10, hs10, hB⟩ := gB1_some hB
    refine gw_aastore hs10 dJ1_putVal_59 ?_
    refine gw_goto (tgt := 259) dJ1_putVal_60 (by decide) ?_
    exact gw_sub [2, 7] rfl (w_J1_putVal_259  _ _ _ hB)
noncomputable def f_J1_putVal_19 (κ : gK) (F : Nat)  (l0 : Option Nat) (l1 : Int32) (l2 : Option Nat) (l3 : Option Nat) (l4 : Int32) (l5 : Int32) (s : gS) : Option ((Option Nat) × gS) :=
  gB1 (gck s l0 10) fun _ =>
  gB2 (f_J1_resize κ F l0  s) fun v2 s1 =>
  gB1 (gal s1 v2) fun v4 =>
  f_J1_putVal_29 κ F  l0 l1 l2 l3 l4 l5 v2 v4 s1
set_option maxHeartbeats 4000000 in
theorem w_J1_putVal_19 {E : gE} {F z0 n0 : Nat} {r : (Option Nat)} {s' : gS}   : ∀ (l0 : Option Nat) (l1 : Int32) (l2 : Option Nat) (l3 : Option Nat) (l4 : Int32) (l5 : Int32)  (s : gS), f_J1_putVal_19 (gk E) F  l0 l1 l2 l3 l4 l5 s = some (r, s') → W_J1_putVal E z0 n0 r s' 19 [(0, vR l0), (1, vI l1), (2, vR l2), (3, vR l3), (4, vI l4), (5, vI l5)] [] s := by
  intro l0 l1 l2 l3 l4 l5 s hB
  unfold f_J1_putVal_19 at hB
  refine gw_aload_n 0 rfl dJ1_putVal_19 ?_
  obtain ⟨u0, hu3, hB⟩ := gB1_some hB
  obtain ⟨v2, s1, hv2, hB⟩ := gB2_some hB
  refine gw_callU (C := "java/util/LinkedHashMap") (owner := "java/util/HashMap") (x := ⟨"java/util/HashMap", "resize", "()[Ljava/util/HashMap$Node;"⟩) (y := yJ1_resize) (lw_app (lw_in (([Cond.methodLink "java/util/HashMap" 117 ⟨"java/util/HashMap", "resize", "()[Ljava/util/HashMap$Node;"⟩, Cond.sameMethod "java/util/HashMap" "java/util/HashMap" "resize" "()[Ljava/util/HashMap$Node;", Cond.selects "java/util/LinkedHashMap" ⟨"java/util/HashMap", "resize", "()[Ljava/util/HashMap$Node;"⟩ yJ1_resize, Cond.instanceMethod yJ1_resize, Cond.initialized "java/util/HashMap"] : List Cond)) [759, 761, 762, 760, 113] (by decide +kernel) (by decide +kernel)) (lw_meth q763)) rfl (show _ ∧ _ ∧ _ = some 0 from by decide +kernel) gcl10 hu3 (As := []) (rest := []) (m_J1_resize _ _ _ _ hv2) (Nat.le_of_ble_eq_true rfl) (Nat.le_of_ble_eq_true rfl) rfl (Nat.le_of_ble_eq_true rfl) dJ1_putVal_20 (gCont_i ?_)
  refine gw_dup rfl dJ1_putVal_23 ?_
  refine gw_astore (L' := [(6, vR v2), (0, vR l0), (1, vI l1), (2, vR l2), (3, vR l3), (4, vI l4), (5, vI l5)]) (Nat.le_of_ble_eq_true rfl) rfl dJ1_putVal_24 ?_
  obtain ⟨v4, hv4, hB⟩ := gB1_some hB
  refine gw_alen hv4 dJ1_putVal_26 ?_
  refine gw_istore (L' := [(8, vI v4), (6, vR v2), (0, vR l0), (1, vI l1), (2, vR l2), (3, vR l3), (4, vI l4), (5, vI l5)]) (Nat.le_of_ble_eq_true rfl) rfl dJ1_putVal_27 ?_
  exact gw_sub [2, 3, 4, 5, 6, 7, 1, 0] rfl (w_J1_putVal_29  _ _ _ _ _ _ _ _ _ hB)
noncomputable def f_J1_putVal_0 (κ : gK) (F : Nat)  (l0 : Option Nat) (l1 : Int32) (l2 : Option Nat) (l3 : Option Nat) (l4 : Int32) (l5 : Int32) (s : gS) : Option ((Option Nat) × gS) :=
  gB1 (gfR s l0 10 0) fun v1 =>
  if v1 = none then
    f_J1_putVal_19 κ F  l0 l1 l2 l3 l4 l5 s
  else
    gB1 (gal s v1) fun v2 =>
    if v2 = 0 then
      f_J1_putVal_19 κ F  l0 l1 l2 l3 l4 l5 s
    else
      f_J1_putVal_29 κ F  l0 l1 l2 l3 l4 l5 v1 v2 s
set_option maxHeartbeats 4000000 in
theorem w_J1_putVal_0 {E : gE} {F z0 n0 : Nat} {r : (Option Nat)} {s' : gS}   : ∀ (l0 : Option Nat) (l1 : Int32) (l2 : Option Nat) (l3 : Option Nat) (l4 : Int32) (l5 : Int32)  (s : gS), f_J1_putVal_0 (gk E) F  l0 l1 l2 l3 l4 l5 s = some (r, s') → W_J1_putVal E z0 n0 r s' 0 [(0, vR l0), (1, vI l1), (2, vR l2), (3, vR l3), (4, vI l4), (5, vI l5)] [] s := by
  intro l0 l1 l2 l3 l4 l5 s hB
  unfold f_J1_putVal_0 at hB
  refine gw_aload_n 0 rfl dJ1_putVal_0 ?_
  obtain ⟨v1, hv1, hB⟩ := gB1_some hB
  refine gw_getf (C := RJ2) (T := TJ2) (N := 12) (k := 0) gcl10 (by decide) in_J2 q236 (gfR_spec hv1) dJ1_putVal_1 ?_
  refine gw_dup rfl dJ1_putVal_4 ?_
  refine gw_astore (L' := [(6, vR v1), (0, vR l0), (1, vI l1), (2, vR l2), (3, vR l3), (4, vI l4), (5, vI l5)]) (Nat.le_of_ble_eq_true rfl) rfl dJ1_putVal_5 ?_
  refine gw_ifnull (tgt := 19) dJ1_putVal_7 (by decide) (fun hcnd => ?_) (fun hcnd => ?_)
  · rw [if_pos hcnd] at hB
    exact gw_sub [1, 2, 3, 4, 5, 6] rfl (w_J1_putVal_19  _ _ _ _ _ _ _ hB)
  · rw [if_neg hcnd] at hB
    refine gw_aload 0 rfl dJ1_putVal_10 ?_
    obtain ⟨v2, hv2, hB⟩ := gB1_some hB
    refine gw_alen hv2 dJ1_putVal_12 ?_
    refine gw_dup rfl dJ1_putVal_13 ?_
    refine gw_istore (L' := [(8, vI v2), (6, vR v1), (0, vR l0), (1, vI l1), (2, vR l2), (3, vR l3), (4, vI l4), (5, vI l5)]) (Nat.le_of_ble_eq_true rfl) rfl dJ1_putVal_14 ?_
    refine gw_if_ne (tgt := 29) dJ1_putVal_16 (by decide) (fun hcnd => ?_) (fun hcnd => ?_)
    · rw [if_neg hcnd] at hB
      exact gw_sub [2, 3, 4, 5, 6, 7, 1, 0] rfl (w_J1_putVal_29  _ _ _ _ _ _ _ _ _ hB)
    · rw [if_pos hcnd] at hB
      exact gw_sub [2, 3, 4, 5, 6, 7] rfl (w_J1_putVal_19  _ _ _ _ _ _ _ hB)
noncomputable def f_J1_putVal (κ : gK) (F : Nat) (a0 : Option Nat) (a1 : Int32) (a2 : Option Nat) (a3 : Option Nat) (a4 : Int32) (a5 : Int32) (s : gS) : Option ((Option Nat) × gS) := f_J1_putVal_0 κ F a0 a1 a2 a3 a4 a5 s
theorem m_J1_putVal {E : gE} {F : Nat} (a0 : Option Nat) (a1 : Int32) (a2 : Option Nat) (a3 : Option Nat) (a4 : Int32) (a5 : Int32) (s : gS) (r : (Option Nat)) (s' : gS) (h : f_J1_putVal (gk E) F a0 a1 a2 a3 a4 a5 s = some (r, s')) : gCT E 4 yJ1_putVal (ws_ yJ1_putVal cJ1_putVal 13 (some (FieldType.object "java/lang/Object"))) [vR a0, vI a1, vR a2, vR a3, vI a4, vI a5] s (.inl (some (vR r))) s' := by
  refine gCT_of2 (fun h => absurd h (by decide)) (plainFor_of_name (by decide)) (Nat.le_of_ble_eq_true rfl) ?_
  exact gw_sub [0, 1, 2, 3, 4, 5] rfl (w_J1_putVal_0 _ _ _ _ _ _ _ h)
def dkwJ1_put_0 : List UInt8 := [42, 43, 184, 0, 149, 43, 44, 3, 4, 182, 0, 152, 176]
abbrev dktJ1_put_0 : List UInt8 := dkwJ1_put_0 ++ []
theorem dksJ1_put_0 : cJ1_put.data.toList.drop 0 = dktJ1_put_0 := by decide +kernel
theorem dJ1_put_0 : decode cJ1_put 0 = .ok (.aload_n 0, 1) := dk_42 (dk_at dksJ1_put_0 0 rfl rfl)
theorem dJ1_put_1 : decode cJ1_put 1 = .ok (.aload_n 1, 1) := dk_43 (dk_at dksJ1_put_0 1 rfl rfl)
theorem dJ1_put_2 : decode cJ1_put 2 = .ok (.invokestatic 149, 3) := dk_184 0 149 (dk_at dksJ1_put_0 2 rfl rfl)
theorem dJ1_put_5 : decode cJ1_put 5 = .ok (.aload_n 1, 1) := dk_43 (dk_at dksJ1_put_0 5 rfl rfl)
theorem dJ1_put_6 : decode cJ1_put 6 = .ok (.aload_n 2, 1) := dk_44 (dk_at dksJ1_put_0 6 rfl rfl)
theorem dJ1_put_7 : decode cJ1_put 7 = .ok (.iconst 0, 1) := dk_3 (dk_at dksJ1_put_0 7 rfl rfl)
theorem dJ1_put_8 : decode cJ1_put 8 = .ok (.iconst 1, 1) := dk_4 (dk_at dksJ1_put_0 8 rfl rfl)
theorem dJ1_put_9 : decode cJ1_put 9 = .ok (.invokevirtual 152, 3) := dk_182 0 152 (dk_at dksJ1_put_0 9 rfl rfl)
theorem dJ1_put_12 : decode cJ1_put 12 = .ok (.areturn, 1) := dk_176 (dk_at dksJ1_put_0 12 rfl rfl)
/-! java/util/HashMap.put(Ljava/lang/Object;Ljava/lang/Object;)Ljava/lang/Object; -/
abbrev M_J1_put (z0 n0 : Nat) (s' : gS) : gM := (RJ1, cJ1_put, 3, (some (FieldType.object "java/lang/Object")), "put", [], 5, z0, n0, s'.2.1, s'.2.2)
abbrev W_J1_put (E : gE) (z0 n0 : Nat) (r : (Option Nat)) (s' : gS) (pc : Nat) (L : List (Nat × gV)) (st : List gV) (s : gS) : Prop := gW E (M_J1_put z0 n0 s') (gQm E (M_J1_put z0 n0 s') (.inl (some (vR r))) s') pc L st s
noncomputable def f_J1_put_0 (κ : gK) (F : Nat)  (l0 : Option Nat) (l1 : Option Nat) (l2 : Option Nat) (s : gS) : Option ((Option Nat) × gS) :=
  gB2 (f_J1_hash κ F l1 s) fun v2 s1 =>
  gB1 (gck s1 l0 10) fun _ =>
  gB2 (f_J1_putVal κ F l0 v2 l1 l2 (0 : Int32) (1 : Int32) s1) fun v4 s3 =>
  some (v4, s3)
set_option maxHeartbeats 4000000 in
theorem w_J1_put_0 {E : gE} {F z0 n0 : Nat} {r : (Option Nat)} {s' : gS}   : ∀ (l0 : Option Nat) (l1 : Option Nat) (l2 : Option Nat)  (s : gS), f_J1_put_0 (gk E) F  l0 l1 l2 s = some (r, s') → W_J1_put E z0 n0 r s' 0 [(0, vR l0), (1, vR l1), (2, vR l2)] [] s := by
  intro l0 l1 l2 s hB
  unfold f_J1_put_0 at hB
  refine gw_aload_n 0 rfl dJ1_put_0 ?_
  refine gw_aload_n 1 rfl dJ1_put_1 ?_
  obtain ⟨v2, s1, hv2, hB⟩ := gB2_some hB
  refine gw_callS (y := yJ1_hash) (lw_S q335 q336 q113 q337) hdS_J1_hash (As := [vR l1]) (rest := [vR l0]) (m_J1_hash _ _ _ _ hv2) (Nat.le_of_ble_eq_true rfl) (Nat.le_of_ble_eq_true rfl) rfl (Nat.le_of_ble_eq_true rfl) dJ1_put_2 (gCont_i ?_)
  refine gw_aload_n 1 rfl dJ1_put_5 ?_
  refine gw_aload_n 2 rfl dJ1_put_6 ?_
  refine gw_iconst (v := (0 : Int32)) (by decide) dJ1_put_7 ?_
  refine gw_iconst (v := (1 : Int32)) (by decide) dJ1_put_8 ?_
  obtain ⟨u0, hu5, hB⟩ := gB1_some hB
  obtain ⟨v4, s3, hv4, hB⟩ := gB2_some hB
  refine gw_callU (C := "java/util/LinkedHashMap") (owner := "java/util/HashMap") (x := ⟨"java/util/HashMap", "putVal", "(ILjava/lang/Object;Ljava/lang/Object;ZZ)Ljava/lang/Object;"⟩) (y := yJ1_putVal) (lw_app (lw_in (([Cond.methodLink "java/util/HashMap" 152 ⟨"java/util/HashMap", "putVal", "(ILjava/lang/Object;Ljava/lang/Object;ZZ)Ljava/lang/Object;"⟩, Cond.sameMethod "java/util/HashMap" "java/util/HashMap" "putVal" "(ILjava/lang/Object;Ljava/lang/Object;ZZ)Ljava/lang/Object;", Cond.selects "java/util/LinkedHashMap" ⟨"java/util/HashMap", "putVal", "(ILjava/lang/Object;Ljava/lang/Object;ZZ)Ljava/lang/Object;"⟩ yJ1_putVal, Cond.instanceMethod yJ1_putVal, Cond.initialized "java/util/HashMap"] : List Cond)) [754, 756, 757, 755, 113] (by decide +kernel) (by decide +kernel)) (lw_meth q758)) rfl (show _ ∧ _ ∧ _ = some 5 from by decide +kernel) gcl10 hu5 (As := [vI v2, vR l1, vR l2, vI (0 : Int32), vI (1 : Int32)]) (rest := []) (m_J1_putVal _ _ _ _ _ _ _ _ _ hv4) (Nat.le_of_ble_eq_true rfl) (Nat.le_of_ble_eq_true rfl) rfl (Nat.le_of_ble_eq_true rfl) dJ1_put_9 (gCont_i ?_)
  obtain ⟨rfl, rfl⟩ := Prod.mk.inj (Option.some.inj hB)
  exact gw_aret rfl (Or.inl ⟨_, rfl⟩) rfl rfl dJ1_put_12
noncomputable def f_J1_put (κ : gK) (F : Nat) (a0 : Option Nat) (a1 : Option Nat) (a2 : Option Nat) (s : gS) : Option ((Option Nat) × gS) := f_J1_put_0 κ F a0 a1 a2 s
theorem m_J1_put {E : gE} {F : Nat} (a0 : Option Nat) (a1 : Option Nat) (a2 : Option Nat) (s : gS) (r : (Option Nat)) (s' : gS) (h : f_J1_put (gk E) F a0 a1 a2 s = some (r, s')) : gCT E 5 yJ1_put (ws_ yJ1_put cJ1_put 3 (some (FieldType.object "java/lang/Object"))) [vR a0, vR a1, vR a2] s (.inl (some (vR r))) s' := by
  refine gCT_of2 (fun h => absurd h (by decide)) (plainFor_of_name (by decide)) (Nat.le_of_ble_eq_true rfl) ?_
  exact gw_sub [0, 1, 2] rfl (w_J1_put_0 _ _ _ _ h)
def dkwJ27_add_0 : List UInt8 := [42, 180, 0, 10, 43, 178, 0, 64, 182, 0, 68, 199, 0, 7, 4, 167, 0, 4, 3, 172]
abbrev dktJ27_add_0 : List UInt8 := dkwJ27_add_0 ++ []
theorem dksJ27_add_0 : cJ27_add.data.toList.drop 0 = dktJ27_add_0 := by decide +kernel
theorem dJ27_add_0 : decode cJ27_add 0 = .ok (.aload_n 0, 1) := dk_42 (dk_at dksJ27_add_0 0 rfl rfl)
theorem dJ27_add_1 : decode cJ27_add 1 = .ok (.getfield 10, 3) := dk_180 0 10 (dk_at dksJ27_add_0 1 rfl rfl)
theorem dJ27_add_4 : decode cJ27_add 4 = .ok (.aload_n 1, 1) := dk_43 (dk_at dksJ27_add_0 4 rfl rfl)
theorem dJ27_add_5 : decode cJ27_add 5 = .ok (.getstatic 64, 3) := dk_178 0 64 (dk_at dksJ27_add_0 5 rfl rfl)
theorem dJ27_add_8 : decode cJ27_add 8 = .ok (.invokevirtual 68, 3) := dk_182 0 68 (dk_at dksJ27_add_0 8 rfl rfl)
theorem dJ27_add_11 : decode cJ27_add 11 = .ok (.ifnonnull 7, 3) := dk_199 0 7 (dk_at dksJ27_add_0 11 rfl rfl)
theorem dJ27_add_14 : decode cJ27_add 14 = .ok (.iconst 1, 1) := dk_4 (dk_at dksJ27_add_0 14 rfl rfl)
theorem dJ27_add_15 : decode cJ27_add 15 = .ok (.goto 4, 3) := dk_167 0 4 (dk_at dksJ27_add_0 15 rfl rfl)
theorem dJ27_add_18 : decode cJ27_add 18 = .ok (.iconst 0, 1) := dk_3 (dk_at dksJ27_add_0 18 rfl rfl)
theorem dJ27_add_19 : decode cJ27_add 19 = .ok (.ireturn, 1) := dk_172 (dk_at dksJ27_add_0 19 rfl rfl)
/-! java/util/HashSet.add(Ljava/lang/Object;)Z -/
abbrev M_J27_add (z0 n0 : Nat) (s' : gS) : gM := (RJ27, cJ27_add, 2, (some FieldType.boolean), "add", [], 6, z0, n0, s'.2.1, s'.2.2)
abbrev W_J27_add (E : gE) (z0 n0 : Nat) (r : Int32) (s' : gS) (pc : Nat) (L : List (Nat × gV)) (st : List gV) (s : gS) : Prop := gW E (M_J27_add z0 n0 s') (gQm E (M_J27_add z0 n0 s') (.inl (some (vI r))) s') pc L st s
noncomputable def f_J27_add_19 (κ : gK) (F : Nat)  (t0 : Int32) (s : gS) : Option (Int32 × gS) :=
  gB1 (gok .boolean t0) fun _ => some (t0, s)
set_option maxHeartbeats 4000000 in
theorem w_J27_add_19 {E : gE} {F z0 n0 : Nat} {r : Int32} {s' : gS}   : ∀  (t0 : Int32) (s : gS), f_J27_add_19 (gk E) F  t0 s = some (r, s') → W_J27_add E z0 n0 r s' 19 [] [vI t0] s := by
  intro t0 s hB
  unfold f_J27_add_19 at hB
  obtain ⟨u, hu, hB⟩ := gB1_some hB
  obtain ⟨rfl, rfl⟩ := Prod.mk.inj (Option.some.inj hB)
  exact gw_zret rfl hu rfl rfl dJ27_add_19
noncomputable def f_J27_add_0 (κ : gK) (F : Nat)  (l0 : Option Nat) (l1 : Option Nat) (s : gS) : Option (Int32 × gS) :=
  gB1 (gfR s l0 12 0) fun v1 =>
  gB1 (gck s v1 10) fun _ =>
  gB2 (f_J1_put κ F v1 l1 (κ.2 3) s) fun v3 s2 =>
  if v3 = none then
    f_J27_add_19 κ F  (1 : Int32) s2
  else
    f_J27_add_19 κ F  (0 : Int32) s2
set_option maxHeartbeats 4000000 in
theorem w_J27_add_0 {E : gE} {F z0 n0 : Nat} {r : Int32} {s' : gS}   : ∀ (l0 : Option Nat) (l1 : Option Nat)  (s : gS), f_J27_add_0 (gk E) F  l0 l1 s = some (r, s') → W_J27_add E z0 n0 r s' 0 [(0, vR l0), (1, vR l1)] [] s := by
  intro l0 l1 s hB
  unfold f_J27_add_0 at hB
  refine gw_aload_n 0 rfl dJ27_add_0 ?_
  obtain ⟨v1, hv1, hB⟩ := gB1_some hB
  refine gw_getf (C := RJ28) (T := TJ28) (N := 1) (k := 0) gcl12 (by decide) in_J28 q1781 (gfR_spec hv1) dJ27_add_1 ?_
  refine gw_aload_n 1 rfl dJ27_add_4 ?_
  refine gw_gets (i := 3) (by decide) q1956 dJ27_add_5 ?_
  obtain ⟨u0, hu4, hB⟩ := gB1_some hB
  obtain ⟨v3, s2, hv3, hB⟩ := gB2_some hB
  refine gw_callU (C := "java/util/LinkedHashMap") (owner := "java/util/HashMap") (x := ⟨"java/util/HashMap", "put", "(Ljava/lang/Object;Ljava/lang/Object;)Ljava/lang/Object;"⟩) (y := yJ1_put) (lw_app (lw_in (([Cond.methodLink "java/util/HashSet" 68 ⟨"java/util/HashMap", "put", "(Ljava/lang/Object;Ljava/lang/Object;)Ljava/lang/Object;"⟩, Cond.sameMethod "java/util/HashMap" "java/util/HashMap" "put" "(Ljava/lang/Object;Ljava/lang/Object;)Ljava/lang/Object;", Cond.selects "java/util/LinkedHashMap" ⟨"java/util/HashMap", "put", "(Ljava/lang/Object;Ljava/lang/Object;)Ljava/lang/Object;"⟩ yJ1_put, Cond.instanceMethod yJ1_put, Cond.initialized "java/util/HashMap"] : List Cond)) [1958, 3128, 3129, 333, 113] (by decide +kernel) (by decide +kernel)) (lw_meth q334)) rfl (show _ ∧ _ ∧ _ = some 2 from by decide +kernel) gcl10 hu4 (As := [vR l1, vR ((gk E).2 3)]) (rest := []) (m_J1_put _ _ _ _ _ _ hv3) (Nat.le_of_ble_eq_true rfl) (Nat.le_of_ble_eq_true rfl) rfl (Nat.le_of_ble_eq_true rfl) dJ27_add_8 (gCont_i ?_)
  refine gw_ifnonnull (tgt := 18) dJ27_add_11 (by decide) (fun hcnd => ?_) (fun hcnd => ?_)
  · rw [if_neg hcnd] at hB
    refine gw_iconst (v := (0 : Int32)) (by decide) dJ27_add_18 ?_
    exact gw_sub [] rfl (w_J27_add_19  _ _ hB)
  · rw [if_pos hcnd] at hB
    refine gw_iconst (v := (1 : Int32)) (by decide) dJ27_add_14 ?_
    refine gw_goto (tgt := 19) dJ27_add_15 (by decide) ?_
    exact gw_sub [] rfl (w_J27_add_19  _ _ hB)
noncomputable def f_J27_add (κ : gK) (F : Nat) (a0 : Option Nat) (a1 : Option Nat) (s : gS) : Option (Int32 × gS) := f_J27_add_0 κ F a0 a1 s
theorem m_J27_add {E : gE} {F : Nat} (a0 : Option Nat) (a1 : Option Nat) (s : gS) (r : Int32) (s' : gS) (h : f_J27_add (gk E) F a0 a1 s = some (r, s')) : gCT E 6 yJ27_add (ws_ yJ27_add cJ27_add 2 (some FieldType.boolean)) [vR a0, vR a1] s (.inl (some (vI r))) s' := by
  refine gCT_of2 (fun h => absurd h (by decide)) (plainFor_of_name (by decide)) (Nat.le_of_ble_eq_true rfl) ?_
  exact gw_sub [0, 1] rfl (w_J27_add_0 _ _ _ h)
