set_option maxRecDepth 100000
def dkwX6_init_4 : List UInt8 := [17, 1, 194, 4, 79, 42, 180, 0, 7, 17, 1, 196, 2, 79, 42, 180, 0, 7, 17, 1, 211, 2, 79, 177]
abbrev dktX6_init_4 : List UInt8 := dkwX6_init_4 ++ []
def dkwX6_init_3 : List UInt8 := [42, 180, 0, 7, 17, 1, 192, 4, 79, 42, 180, 0, 7, 17, 1, 193, 3, 79, 42, 180, 0, 7]
abbrev dktX6_init_3 : List UInt8 := dkwX6_init_3 ++ dktX6_init_4
def dkwX6_init_2 : List UInt8 := [181, 0, 22, 42, 5, 188, 10, 181, 0, 25, 42, 180, 0, 7, 3, 4, 79, 42, 180, 0, 7, 4, 4, 79]
abbrev dktX6_init_2 : List UInt8 := dkwX6_init_2 ++ dktX6_init_3
def dkwX6_init_1 : List UInt8 := [17, 7, 88, 188, 10, 181, 0, 16, 42, 17, 0, 150, 188, 10, 181, 0, 19, 42, 16, 10, 188, 10]
abbrev dktX6_init_1 : List UInt8 := dkwX6_init_1 ++ dktX6_init_2
def dkwX6_init_0 : List UInt8 := [42, 183, 0, 1, 42, 17, 1, 214, 188, 10, 181, 0, 7, 42, 17, 1, 214, 188, 10, 181, 0, 13, 42]
abbrev dktX6_init_0 : List UInt8 := dkwX6_init_0 ++ dktX6_init_1
theorem dksX6_init_0 : cX6_init.data.toList.drop 0 = dktX6_init_0 := by decide +kernel
theorem dksX6_init_1 : cX6_init.data.toList.drop 23 = dktX6_init_1 := dk_seg dksX6_init_0 23 rfl rfl
theorem dksX6_init_2 : cX6_init.data.toList.drop 45 = dktX6_init_2 := dk_seg dksX6_init_1 22 rfl rfl
theorem dksX6_init_3 : cX6_init.data.toList.drop 69 = dktX6_init_3 := dk_seg dksX6_init_2 24 rfl rfl
theorem dksX6_init_4 : cX6_init.data.toList.drop 91 = dktX6_init_4 := dk_seg dksX6_init_3 22 rfl rfl
theorem dX6_init_0 : decode cX6_init 0 = .ok (.aload_n 0, 1) := dk_42 (dk_at dksX6_init_0 0 rfl rfl)
theorem dX6_init_1 : decode cX6_init 1 = .ok (.invokespecial 1, 3) := dk_183 0 1 (dk_at dksX6_init_0 1 rfl rfl)
theorem dX6_init_4 : decode cX6_init 4 = .ok (.aload_n 0, 1) := dk_42 (dk_at dksX6_init_0 4 rfl rfl)
theorem dX6_init_5 : decode cX6_init 5 = .ok (.sipush 470, 3) := dk_17 1 214 (dk_at dksX6_init_0 5 rfl rfl)
theorem dX6_init_8 : decode cX6_init 8 = .ok (.newarray .int, 2) := dk_188_10 (dk_at dksX6_init_0 8 rfl rfl)
theorem dX6_init_10 : decode cX6_init 10 = .ok (.putfield 7, 3) := dk_181 0 7 (dk_at dksX6_init_0 10 rfl rfl)
theorem dX6_init_13 : decode cX6_init 13 = .ok (.aload_n 0, 1) := dk_42 (dk_at dksX6_init_0 13 rfl rfl)
theorem dX6_init_14 : decode cX6_init 14 = .ok (.sipush 470, 3) := dk_17 1 214 (dk_at dksX6_init_0 14 rfl rfl)
theorem dX6_init_17 : decode cX6_init 17 = .ok (.newarray .int, 2) := dk_188_10 (dk_at dksX6_init_0 17 rfl rfl)
theorem dX6_init_19 : decode cX6_init 19 = .ok (.putfield 13, 3) := dk_181 0 13 (dk_at dksX6_init_0 19 rfl rfl)
theorem dX6_init_22 : decode cX6_init 22 = .ok (.aload_n 0, 1) := dk_42 (dk_at dksX6_init_0 22 rfl rfl)
theorem dX6_init_23 : decode cX6_init 23 = .ok (.sipush 1880, 3) := dk_17 7 88 (dk_at dksX6_init_1 0 rfl rfl)
theorem dX6_init_26 : decode cX6_init 26 = .ok (.newarray .int, 2) := dk_188_10 (dk_at dksX6_init_1 3 rfl rfl)
theorem dX6_init_28 : decode cX6_init 28 = .ok (.putfield 16, 3) := dk_181 0 16 (dk_at dksX6_init_1 5 rfl rfl)
theorem dX6_init_31 : decode cX6_init 31 = .ok (.aload_n 0, 1) := dk_42 (dk_at dksX6_init_1 8 rfl rfl)
theorem dX6_init_32 : decode cX6_init 32 = .ok (.sipush 150, 3) := dk_17 0 150 (dk_at dksX6_init_1 9 rfl rfl)
theorem dX6_init_35 : decode cX6_init 35 = .ok (.newarray .int, 2) := dk_188_10 (dk_at dksX6_init_1 12 rfl rfl)
theorem dX6_init_37 : decode cX6_init 37 = .ok (.putfield 19, 3) := dk_181 0 19 (dk_at dksX6_init_1 14 rfl rfl)
theorem dX6_init_40 : decode cX6_init 40 = .ok (.aload_n 0, 1) := dk_42 (dk_at dksX6_init_1 17 rfl rfl)
theorem dX6_init_41 : decode cX6_init 41 = .ok (.bipush 10, 2) := dk_16 10 (dk_at dksX6_init_1 18 rfl rfl)
theorem dX6_init_43 : decode cX6_init 43 = .ok (.newarray .int, 2) := dk_188_10 (dk_at dksX6_init_1 20 rfl rfl)
theorem dX6_init_45 : decode cX6_init 45 = .ok (.putfield 22, 3) := dk_181 0 22 (dk_at dksX6_init_2 0 rfl rfl)
theorem dX6_init_48 : decode cX6_init 48 = .ok (.aload_n 0, 1) := dk_42 (dk_at dksX6_init_2 3 rfl rfl)
theorem dX6_init_49 : decode cX6_init 49 = .ok (.iconst 2, 1) := dk_5 (dk_at dksX6_init_2 4 rfl rfl)
theorem dX6_init_50 : decode cX6_init 50 = .ok (.newarray .int, 2) := dk_188_10 (dk_at dksX6_init_2 5 rfl rfl)
theorem dX6_init_52 : decode cX6_init 52 = .ok (.putfield 25, 3) := dk_181 0 25 (dk_at dksX6_init_2 7 rfl rfl)
theorem dX6_init_55 : decode cX6_init 55 = .ok (.aload_n 0, 1) := dk_42 (dk_at dksX6_init_2 10 rfl rfl)
theorem dX6_init_56 : decode cX6_init 56 = .ok (.getfield 7, 3) := dk_180 0 7 (dk_at dksX6_init_2 11 rfl rfl)
theorem dX6_init_59 : decode cX6_init 59 = .ok (.iconst 0, 1) := dk_3 (dk_at dksX6_init_2 14 rfl rfl)
theorem dX6_init_60 : decode cX6_init 60 = .ok (.iconst 1, 1) := dk_4 (dk_at dksX6_init_2 15 rfl rfl)
theorem dX6_init_61 : decode cX6_init 61 = .ok (.iastore, 1) := dk_79 (dk_at dksX6_init_2 16 rfl rfl)
theorem dX6_init_62 : decode cX6_init 62 = .ok (.aload_n 0, 1) := dk_42 (dk_at dksX6_init_2 17 rfl rfl)
theorem dX6_init_63 : decode cX6_init 63 = .ok (.getfield 7, 3) := dk_180 0 7 (dk_at dksX6_init_2 18 rfl rfl)
theorem dX6_init_66 : decode cX6_init 66 = .ok (.iconst 1, 1) := dk_4 (dk_at dksX6_init_2 21 rfl rfl)
theorem dX6_init_67 : decode cX6_init 67 = .ok (.iconst 1, 1) := dk_4 (dk_at dksX6_init_2 22 rfl rfl)
theorem dX6_init_68 : decode cX6_init 68 = .ok (.iastore, 1) := dk_79 (dk_at dksX6_init_2 23 rfl rfl)
theorem dX6_init_69 : decode cX6_init 69 = .ok (.aload_n 0, 1) := dk_42 (dk_at dksX6_init_3 0 rfl rfl)
theorem dX6_init_70 : decode cX6_init 70 = .ok (.getfield 7, 3) := dk_180 0 7 (dk_at dksX6_init_3 1 rfl rfl)
theorem dX6_init_73 : decode cX6_init 73 = .ok (.sipush 448, 3) := dk_17 1 192 (dk_at dksX6_init_3 4 rfl rfl)
theorem dX6_init_76 : decode cX6_init 76 = .ok (.iconst 1, 1) := dk_4 (dk_at dksX6_init_3 7 rfl rfl)
theorem dX6_init_77 : decode cX6_init 77 = .ok (.iastore, 1) := dk_79 (dk_at dksX6_init_3 8 rfl rfl)
theorem dX6_init_78 : decode cX6_init 78 = .ok (.aload_n 0, 1) := dk_42 (dk_at dksX6_init_3 9 rfl rfl)
theorem dX6_init_79 : decode cX6_init 79 = .ok (.getfield 7, 3) := dk_180 0 7 (dk_at dksX6_init_3 10 rfl rfl)
theorem dX6_init_82 : decode cX6_init 82 = .ok (.sipush 449, 3) := dk_17 1 193 (dk_at dksX6_init_3 13 rfl rfl)
theorem dX6_init_85 : decode cX6_init 85 = .ok (.iconst 0, 1) := dk_3 (dk_at dksX6_init_3 16 rfl rfl)
theorem dX6_init_86 : decode cX6_init 86 = .ok (.iastore, 1) := dk_79 (dk_at dksX6_init_3 17 rfl rfl)
theorem dX6_init_87 : decode cX6_init 87 = .ok (.aload_n 0, 1) := dk_42 (dk_at dksX6_init_3 18 rfl rfl)
theorem dX6_init_88 : decode cX6_init 88 = .ok (.getfield 7, 3) := dk_180 0 7 (dk_at dksX6_init_3 19 rfl rfl)
theorem dX6_init_91 : decode cX6_init 91 = .ok (.sipush 450, 3) := dk_17 1 194 (dk_at dksX6_init_4 0 rfl rfl)
theorem dX6_init_94 : decode cX6_init 94 = .ok (.iconst 1, 1) := dk_4 (dk_at dksX6_init_4 3 rfl rfl)
theorem dX6_init_95 : decode cX6_init 95 = .ok (.iastore, 1) := dk_79 (dk_at dksX6_init_4 4 rfl rfl)
theorem dX6_init_96 : decode cX6_init 96 = .ok (.aload_n 0, 1) := dk_42 (dk_at dksX6_init_4 5 rfl rfl)
theorem dX6_init_97 : decode cX6_init 97 = .ok (.getfield 7, 3) := dk_180 0 7 (dk_at dksX6_init_4 6 rfl rfl)
theorem dX6_init_100 : decode cX6_init 100 = .ok (.sipush 452, 3) := dk_17 1 196 (dk_at dksX6_init_4 9 rfl rfl)
theorem dX6_init_103 : decode cX6_init 103 = .ok (.iconst (-1), 1) := dk_2 (dk_at dksX6_init_4 12 rfl rfl)
theorem dX6_init_104 : decode cX6_init 104 = .ok (.iastore, 1) := dk_79 (dk_at dksX6_init_4 13 rfl rfl)
theorem dX6_init_105 : decode cX6_init 105 = .ok (.aload_n 0, 1) := dk_42 (dk_at dksX6_init_4 14 rfl rfl)
theorem dX6_init_106 : decode cX6_init 106 = .ok (.getfield 7, 3) := dk_180 0 7 (dk_at dksX6_init_4 15 rfl rfl)
theorem dX6_init_109 : decode cX6_init 109 = .ok (.sipush 467, 3) := dk_17 1 211 (dk_at dksX6_init_4 18 rfl rfl)
theorem dX6_init_112 : decode cX6_init 112 = .ok (.iconst (-1), 1) := dk_2 (dk_at dksX6_init_4 21 rfl rfl)
theorem dX6_init_113 : decode cX6_init 113 = .ok (.iastore, 1) := dk_79 (dk_at dksX6_init_4 22 rfl rfl)
theorem dX6_init_114 : decode cX6_init 114 = .ok (.return_, 1) := dk_177 (dk_at dksX6_init_4 23 rfl rfl)
/-! PageGardenModel.<init>()V -/
abbrev M_X6_init (z0 n0 : Nat) (s' : gS) : gM := (RX6, cX6_init, 1, none, "<init>", [], 1, z0, n0, s'.2.1, s'.2.2)
abbrev W_X6_init (E : gE) (z0 n0 : Nat) (r : Unit) (s' : gS) (pc : Nat) (L : List (Nat × gV)) (st : List gV) (s : gS) : Prop := gW E (M_X6_init z0 n0 s') (gQm E (M_X6_init z0 n0 s') (.inl none) s') pc L st s
noncomputable def f_X6_init_0 (κ : gK) (F : Nat)  (l0 : Option Nat) (s : gS) : Option (Unit × gS) :=
  gB1 (gsm l0) fun _ =>
  gB2 (gna s 0 (470 : Int32)) fun v2 s3 =>
  gB1 (gpf κ s3 l0 9 0 (va_rf v2)) fun s4 =>
  gB2 (gna s4 0 (470 : Int32)) fun v5 s6 =>
  gB1 (gpf κ s6 l0 9 1 (va_rf v5)) fun s7 =>
  gB2 (gna s7 0 (1880 : Int32)) fun v8 s9 =>
  gB1 (gpf κ s9 l0 9 2 (va_rf v8)) fun s10 =>
  gB2 (gna s10 0 (150 : Int32)) fun v11 s12 =>
  gB1 (gpf κ s12 l0 9 4 (va_rf v11)) fun s13 =>
  gB2 (gna s13 0 (10 : Int32)) fun v14 s15 =>
  gB1 (gpf κ s15 l0 9 8 (va_rf v14)) fun s16 =>
  gB2 (gna s16 0 (2 : Int32)) fun v17 s18 =>
  gB1 (gpf κ s18 l0 9 11 (va_rf v17)) fun s19 =>
  gB1 (gfR s19 l0 9 0) fun v20 =>
  gB1 (gsI κ s19 v20 (0 : Int32) (1 : Int32)) fun s21 =>
  gB1 (gfR s21 l0 9 0) fun v22 =>
  gB1 (gsI κ s21 v22 (1 : Int32) (1 : Int32)) fun s23 =>
  gB1 (gfR s23 l0 9 0) fun v24 =>
  gB1 (gsI κ s23 v24 (448 : Int32) (1 : Int32)) fun s25 =>
  gB1 (gfR s25 l0 9 0) fun v26 =>
  gB1 (gsI κ s25 v26 (449 : Int32) (0 : Int32)) fun s27 =>
  gB1 (gfR s27 l0 9 0) fun v28 =>
  gB1 (gsI κ s27 v28 (450 : Int32) (1 : Int32)) fun s29 =>
  gB1 (gfR s29 l0 9 0) fun v30 =>
  gB1 (gsI κ s29 v30 (452 : Int32) (-1 : Int32)) fun s31 =>
  gB1 (gfR s31 l0 9 0) fun v32 =>
  gB1 (gsI κ s31 v32 (467 : Int32) (-1 : Int32)) fun s33 =>
  some ((), s33)
set_option maxHeartbeats 4000000 in
theorem w_X6_init_0 {E : gE} {F z0 n0 : Nat} {r : Unit} {s' : gS}   : ∀ (l0 : Option Nat)  (s : gS), f_X6_init_0 (gk E) F  l0 s = some (r, s') → W_X6_init E z0 n0 r s' 0 [(0, vR l0)] [] s := by
  intro l0 s hB
  unfold f_X6_init_0 at hB
  refine gw_aload_n 0 rfl dX6_init_0 ?_
  obtain ⟨u0, hu1, hB⟩ := gB1_some hB
  refine gw_objInit (gsm_spec hu1) q2693 q172 q173 (Nat.le_of_ble_eq_true rfl) (Nat.le_of_ble_eq_true rfl) dX6_init_1 ?_
  refine gw_aload_n 0 rfl dX6_init_4 ?_
  refine gw_sipush (v := (470 : Int32)) (by decide) dX6_init_5 ?_
  obtain ⟨v2, s3, hv2, hB⟩ := gB2_some hB
  refine gw_newarr (atype := .int) (t := 0) rfl rfl rfl (by decide) rfl q211 hv2 dX6_init_8 ?_
  obtain ⟨s4, hs4, hB⟩ := gB1_some hB
  refine gw_putfF (C := RX6) (T := TX6) (N := 13) (k := 0) tyX6 tyX6_ok nmX6 gcl9 (by decide) in_X6 q2694 rfl rfl rfl (tyX6_ok 0 (by decide)) (gNF_a _ _) hs4 dX6_init_10 ?_
  refine gw_aload_n 0 rfl dX6_init_13 ?_
  refine gw_sipush (v := (470 : Int32)) (by decide) dX6_init_14 ?_
  obtain ⟨v5, s6, hv5, hB⟩ := gB2_some hB
  refine gw_newarr (atype := .int) (t := 0) rfl rfl rfl (by decide) rfl q211 hv5 dX6_init_17 ?_
  obtain ⟨s7, hs7, hB⟩ := gB1_some hB
  refine gw_putfF (C := RX6) (T := TX6) (N := 13) (k := 1) tyX6 tyX6_ok nmX6 gcl9 (by decide) in_X6 q2695 rfl rfl rfl (tyX6_ok 1 (by decide)) (gNF_a _ _) hs7 dX6_init_19 ?_
  refine gw_aload_n 0 rfl dX6_init_22 ?_
  refine gw_sipush (v := (1880 : Int32)) (by decide) dX6_init_23 ?_
  obtain ⟨v8, s9, hv8, hB⟩ := gB2_some hB
  refine gw_newarr (atype := .int) (t := 0) rfl rfl rfl (by decide) rfl q211 hv8 dX6_init_26 ?_
  obtain ⟨s10, hs10, hB⟩ := gB1_some hB
  refine gw_putfF (C := RX6) (T := TX6) (N := 13) (k := 2) tyX6 tyX6_ok nmX6 gcl9 (by decide) in_X6 q2696 rfl rfl rfl (tyX6_ok 2 (by decide)) (gNF_a _ _) hs10 dX6_init_28 ?_
  refine gw_aload_n 0 rfl dX6_init_31 ?_
  refine gw_sipush (v := (150 : Int32)) (by decide) dX6_init_32 ?_
  obtain ⟨v11, s12, hv11, hB⟩ := gB2_some hB
  refine gw_newarr (atype := .int) (t := 0) rfl rfl rfl (by decide) rfl q211 hv11 dX6_init_35 ?_
  obtain ⟨s13, hs13, hB⟩ := gB1_some hB
  refine gw_putfF (C := RX6) (T := TX6) (N := 13) (k := 4) tyX6 tyX6_ok nmX6 gcl9 (by decide) in_X6 q2698 rfl rfl rfl (tyX6_ok 4 (by decide)) (gNF_a _ _) hs13 dX6_init_37 ?_
  refine gw_aload_n 0 rfl dX6_init_40 ?_
  refine gw_bipush (v := (10 : Int32)) (by decide) dX6_init_41 ?_
  obtain ⟨v14, s15, hv14, hB⟩ := gB2_some hB
  refine gw_newarr (atype := .int) (t := 0) rfl rfl rfl (by decide) rfl q211 hv14 dX6_init_43 ?_
  obtain ⟨s16, hs16, hB⟩ := gB1_some hB
  refine gw_putfF (C := RX6) (T := TX6) (N := 13) (k := 8) tyX6 tyX6_ok nmX6 gcl9 (by decide) in_X6 q2702 rfl rfl rfl (tyX6_ok 8 (by decide)) (gNF_a _ _) hs16 dX6_init_45 ?_
  refine gw_aload_n 0 rfl dX6_init_48 ?_
  refine gw_iconst (v := (2 : Int32)) (by decide) dX6_init_49 ?_
  obtain ⟨v17, s18, hv17, hB⟩ := gB2_some hB
  refine gw_newarr (atype := .int) (t := 0) rfl rfl rfl (by decide) rfl q211 hv17 dX6_init_50 ?_
  obtain ⟨s19, hs19, hB⟩ := gB1_some hB
  refine gw_putfF (C := RX6) (T := TX6) (N := 13) (k := 11) tyX6 tyX6_ok nmX6 gcl9 (by decide) in_X6 q2705 rfl rfl rfl (tyX6_ok 11 (by decide)) (gNF_a _ _) hs19 dX6_init_52 ?_
  refine gw_aload_n 0 rfl dX6_init_55 ?_
  obtain ⟨v20, hv20, hB⟩ := gB1_some hB
  refine gw_getf (C := RX6) (T := TX6) (N := 13) (k := 0) gcl9 (by decide) in_X6 q2694 (gfR_spec hv20) dX6_init_56 ?_
  refine gw_iconst (v := (0 : Int32)) (by decide) dX6_init_59 ?_
  refine gw_iconst (v := (1 : Int32)) (by decide) dX6_init_60 ?_
  obtain ⟨s21, hs21, hB⟩ := gB1_some hB
  refine gw_iastore hs21 dX6_init_61 ?_
  refine gw_aload_n 0 rfl dX6_init_62 ?_
  obtain ⟨v22, hv22, hB⟩ := gB1_some hB
  refine gw_getf (C := RX6) (T := TX6) (N := 13) (k := 0) gcl9 (by decide) in_X6 q2694 (gfR_spec hv22) dX6_init_63 ?_
  refine gw_iconst (v := (1 : Int32)) (by decide) dX6_init_66 ?_
  refine gw_iconst (v := (1 : Int32)) (by decide) dX6_init_67 ?_
  obtain ⟨s23, hs23, hB⟩ := gB1_some hB
  refine gw_iastore hs23 dX6_init_68 ?_
  refine gw_aload_n 0 rfl dX6_init_69 ?_
  obtain ⟨v24, hv24, hB⟩ := gB1_some hB
  refine gw_getf (C := RX6) (T := TX6) (N := 13) (k := 0) gcl9 (by decide) in_X6 q2694 (gfR_spec hv24) dX6_init_70 ?_
  refine gw_sipush (v := (448 : Int32)) (by decide) dX6_init_73 ?_
  refine gw_iconst (v := (1 : Int32)) (by decide) dX6_init_76 ?_
  obtain ⟨s25, hs25, hB⟩ := gB1_some hB
  refine gw_iastore hs25 dX6_init_77 ?_
  refine gw_aload_n 0 rfl dX6_init_78 ?_
  obtain ⟨v26, hv26, hB⟩ := gB1_some hB
  refine gw_getf (C := RX6) (T := TX6) (N := 13) (k := 0) gcl9 (by decide) in_X6 q2694 (gfR_spec hv26) dX6_init_79 ?_
  refine gw_sipush (v := (449 : Int32)) (by decide) dX6_init_82 ?_
  refine gw_iconst (v := (0 : Int32)) (by decide) dX6_init_85 ?_
  obtain ⟨s27, hs27, hB⟩ := gB1_some hB
  refine gw_iastore hs27 dX6_init_86 ?_
  refine gw_aload_n 0 rfl dX6_init_87 ?_
  obtain ⟨v28, hv28, hB⟩ := gB1_some hB
  refine gw_getf (C := RX6) (T := TX6) (N := 13) (k := 0) gcl9 (by decide) in_X6 q2694 (gfR_spec hv28) dX6_init_88 ?_
  refine gw_sipush (v := (450 : Int32)) (by decide) dX6_init_91 ?_
  refine gw_iconst (v := (1 : Int32)) (by decide) dX6_init_94 ?_
  obtain ⟨s29, hs29, hB⟩ := gB1_some hB
  refine gw_iastore hs29 dX6_init_95 ?_
  refine gw_aload_n 0 rfl dX6_init_96 ?_
  obtain ⟨v30, hv30, hB⟩ := gB1_some hB
  refine gw_getf (C := RX6) (T := TX6) (N := 13) (k := 0) gcl9 (by decide) in_X6 q2694 (gfR_spec hv30) dX6_init_97 ?_
  refine gw_sipush (v := (452 : Int32)) (by decide) dX6_init_100 ?_
  refine gw_iconst (v := (-1 : Int32)) (by decide) dX6_init_103 ?_
  obtain ⟨s31, hs31, hB⟩ := gB1_some hB
  refine gw_iastore hs31 dX6_init_104 ?_
  refine gw_aload_n 0 rfl dX6_init_105 ?_
  obtain ⟨v32, hv32, hB⟩ := gB1_some hB
  refine gw_getf (C := RX6) (T := TX6) (N := 13) (k := 0) gcl9 (by decide) in_X6 q2694 (gfR_spec hv32) dX6_init_106 ?_
  refine gw_sipush (v := (467 : Int32)) (by decide) dX6_init_109 ?_
  refine gw_iconst (v := (-1 : Int32)) (by decide) dX6_init_112 ?_
  obtain ⟨s33, hs33, hB⟩ := gB1_some hB
  refine gw_iastore hs33 dX6_init_113 ?_
  obtain ⟨rfl, rfl⟩ := Prod.mk.inj (Option.some.inj hB)
  exact gw_vret rfl rfl rfl dX6_init_114
noncomputable def f_X6_init (κ : gK) (F : Nat) (a0 : Option Nat) (s : gS) : Option (Unit × gS) := f_X6_init_0 κ F a0 s
theorem m_X6_init {E : gE} {F : Nat} (a0 : Option Nat) (s : gS) (r : Unit) (s' : gS) (h : f_X6_init (gk E) F a0 s = some (r, s')) : gCT E 1 yX6_init (ws_ yX6_init cX6_init 1 none) [vR a0] s (.inl none) s' := by
  refine gCT_of2 (fun h => absurd h (by decide)) (plainFor_of_name (by decide)) (Nat.le_of_ble_eq_true rfl) ?_
  exact gw_sub [0] rfl (w_X6_init_0 _ _ h)
theorem dX6_thrown_0 : decode cX6_thrown 0 = .ok (.aload_n 0, 1) := by decide +kernel
theorem dX6_thrown_1 : decode cX6_thrown 1 = .ok (.getfield 28, 3) := by decide +kernel
theorem dX6_thrown_4 : decode cX6_thrown 4 = .ok (.ireturn, 1) := by decide +kernel
/-! PageGardenModel.thrown()I -/
abbrev M_X6_thrown (z0 n0 : Nat) (s' : gS) : gM := (RX6, cX6_thrown, 1, (some FieldType.int), "thrown", [], 1, z0, n0, s'.2.1, s'.2.2)
abbrev W_X6_thrown (E : gE) (z0 n0 : Nat) (r : Int32) (s' : gS) (pc : Nat) (L : List (Nat × gV)) (st : List gV) (s : gS) : Prop := gW E (M_X6_thrown z0 n0 s') (gQm E (M_X6_thrown z0 n0 s') (.inl (some (vI r))) s') pc L st s
noncomputable def f_X6_thrown_0 (κ : gK) (F : Nat)  (l0 : Option Nat) (s : gS) : Option (Int32 × gS) :=
  gB1 (gfI s l0 9 6) fun v1 =>
  some (v1, s)
set_option maxHeartbeats 4000000 in
theorem w_X6_thrown_0 {E : gE} {F z0 n0 : Nat} {r : Int32} {s' : gS}   : ∀ (l0 : Option Nat)  (s : gS), f_X6_thrown_0 (gk E) F  l0 s = some (r, s') → W_X6_thrown E z0 n0 r s' 0 [(0, vR l0)] [] s := by
  intro l0 s hB
  unfold f_X6_thrown_0 at hB
  refine gw_aload_n 0 rfl dX6_thrown_0 ?_
  obtain ⟨v1, hv1, hB⟩ := gB1_some hB
  refine gw_getf (C := RX6) (T := TX6) (N := 13) (k := 6) gcl9 (by decide) in_X6 q2700 (gfI_spec hv1) dX6_thrown_1 ?_
  obtain ⟨rfl, rfl⟩ := Prod.mk.inj (Option.some.inj hB)
  exact gw_iret rfl rfl rfl dX6_thrown_4
noncomputable def f_X6_thrown (κ : gK) (F : Nat) (a0 : Option Nat) (s : gS) : Option (Int32 × gS) := f_X6_thrown_0 κ F a0 s
theorem m_X6_thrown {E : gE} {F : Nat} (a0 : Option Nat) (s : gS) (r : Int32) (s' : gS) (h : f_X6_thrown (gk E) F a0 s = some (r, s')) : gCT E 1 yX6_thrown (ws_ yX6_thrown cX6_thrown 1 (some FieldType.int)) [vR a0] s (.inl (some (vI r))) s' := by
  refine gCT_of2 (fun h => absurd h (by decide)) (plainFor_of_name (by decide)) (Nat.le_of_ble_eq_true rfl) ?_
  exact gw_sub [0] rfl (w_X6_thrown_0 _ _ h)
def dkwX6_bring_1 : List UInt8 := [132, 4, 1, 167, 255, 233, 177]
abbrev dktX6_bring_1 : List UInt8 := dkwX6_bring_1 ++ []
def dkwX6_bring_0 : List UInt8 := [3, 54, 4, 21, 4, 17, 1, 214, 162, 0, 21, 44, 29, 21, 4, 96, 42, 27, 21, 4, 96, 46, 79]
abbrev dktX6_bring_0 : List UInt8 := dkwX6_bring_0 ++ dktX6_bring_1
theorem dksX6_bring_0 : cX6_bring.data.toList.drop 0 = dktX6_bring_0 := by decide +kernel
theorem dksX6_bring_1 : cX6_bring.data.toList.drop 23 = dktX6_bring_1 := dk_seg dksX6_bring_0 23 rfl rfl
theorem dX6_bring_0 : decode cX6_bring 0 = .ok (.iconst 0, 1) := dk_3 (dk_at dksX6_bring_0 0 rfl rfl)
theorem dX6_bring_1 : decode cX6_bring 1 = .ok (.istore 4, 2) := dk_54 4 (dk_at dksX6_bring_0 1 rfl rfl)
theorem dX6_bring_3 : decode cX6_bring 3 = .ok (.iload 4, 2) := dk_21 4 (dk_at dksX6_bring_0 3 rfl rfl)
theorem dX6_bring_5 : decode cX6_bring 5 = .ok (.sipush 470, 3) := dk_17 1 214 (dk_at dksX6_bring_0 5 rfl rfl)
theorem dX6_bring_8 : decode cX6_bring 8 = .ok (.if_icmp .ge 21, 3) := dk_162 0 21 (dk_at dksX6_bring_0 8 rfl rfl)
theorem dX6_bring_11 : decode cX6_bring 11 = .ok (.aload_n 2, 1) := dk_44 (dk_at dksX6_bring_0 11 rfl rfl)
theorem dX6_bring_12 : decode cX6_bring 12 = .ok (.iload_n 3, 1) := dk_29 (dk_at dksX6_bring_0 12 rfl rfl)
theorem dX6_bring_13 : decode cX6_bring 13 = .ok (.iload 4, 2) := dk_21 4 (dk_at dksX6_bring_0 13 rfl rfl)
theorem dX6_bring_15 : decode cX6_bring 15 = .ok (.iadd, 1) := dk_96 (dk_at dksX6_bring_0 15 rfl rfl)
theorem dX6_bring_16 : decode cX6_bring 16 = .ok (.aload_n 0, 1) := dk_42 (dk_at dksX6_bring_0 16 rfl rfl)
theorem dX6_bring_17 : decode cX6_bring 17 = .ok (.iload_n 1, 1) := dk_27 (dk_at dksX6_bring_0 17 rfl rfl)
theorem dX6_bring_18 : decode cX6_bring 18 = .ok (.iload 4, 2) := dk_21 4 (dk_at dksX6_bring_0 18 rfl rfl)
theorem dX6_bring_20 : decode cX6_bring 20 = .ok (.iadd, 1) := dk_96 (dk_at dksX6_bring_0 20 rfl rfl)
theorem dX6_bring_21 : decode cX6_bring 21 = .ok (.iaload, 1) := dk_46 (dk_at dksX6_bring_0 21 rfl rfl)
theorem dX6_bring_22 : decode cX6_bring 22 = .ok (.iastore, 1) := dk_79 (dk_at dksX6_bring_0 22 rfl rfl)
theorem dX6_bring_23 : decode cX6_bring 23 = .ok (.iinc 4 1, 3) := dk_132 4 1 (dk_at dksX6_bring_1 0 rfl rfl)
theorem dX6_bring_26 : decode cX6_bring 26 = .ok (.goto (-23), 3) := dk_167 255 233 (dk_at dksX6_bring_1 3 rfl rfl)
theorem dX6_bring_29 : decode cX6_bring 29 = .ok (.return_, 1) := dk_177 (dk_at dksX6_bring_1 6 rfl rfl)
/-! PageGardenModel.bring([II[II)V -/
abbrev M_X6_bring (z0 n0 : Nat) (s' : gS) : gM := (RX6, cX6_bring, 5, none, "bring", [], 1, z0, n0, s'.2.1, s'.2.2)
abbrev W_X6_bring (E : gE) (z0 n0 : Nat) (r : Unit) (s' : gS) (pc : Nat) (L : List (Nat × gV)) (st : List gV) (s : gS) : Prop := gW E (M_X6_bring z0 n0 s') (gQm E (M_X6_bring z0 n0 s') (.inl none) s') pc L st s
noncomputable def f_X6_bring_3b (κ : gK) (F : Nat) (k3 : Option Nat → Int32 → Option Nat → Int32 → Int32 → gS → Option (Unit × gS)) (l0 : Option Nat) (l1 : Int32) (l2 : Option Nat) (l3 : Int32) (l4 : Int32) (s : gS) : Option (Unit × gS) :=
  if (470 : Int32) ≤ l4 then
    some ((), s)
  else
    gB1 (gaI s l0 0 (l1 + l4)) fun v1 =>
    gB1 (gsI κ s l2 (l3 + l4) v1) fun s2 =>
    k3 l0 l1 l2 l3 (l4 + (1 : Int32)) s2
noncomputable def f_X6_bring_3 (κ : gK) (F : Nat)  : Nat → Option Nat → Int32 → Option Nat → Int32 → Int32 → gS → Option (Unit × gS)
  | 0 => fun _ _ _ _ _ _ => none
  | n + 1 => f_X6_bring_3b κ F  (f_X6_bring_3 κ F  n)
set_option maxHeartbeats 4000000 in
theorem w_X6_bring_3b {E : gE} {F z0 n0 : Nat} {r : Unit} {s' : gS} {k3 : Option Nat → Int32 → Option Nat → Int32 → Int32 → gS → Option (Unit × gS)} (hk3 : ∀ (l0 : Option Nat) (l1 : Int32) (l2 : Option Nat) (l3 : Int32) (l4 : Int32) (s : gS), k3 l0 l1 l2 l3 l4 s = some (r, s') → W_X6_bring E z0 n0 r s' 3 [(0, vR l0), (1, vI l1), (2, vR l2), (3, vI l3), (4, vI l4)] [] s) : ∀ (l0 : Option Nat) (l1 : Int32) (l2 : Option Nat) (l3 : Int32) (l4 : Int32)  (s : gS), f_X6_bring_3b (gk E) F k3 l0 l1 l2 l3 l4 s = some (r, s') → W_X6_bring E z0 n0 r s' 3 [(0, vR l0), (1, vI l1), (2, vR l2), (3, vI l3), (4, vI l4)] [] s := by
  intro l0 l1 l2 l3 l4 s hB
  unfold f_X6_bring_3b at hB
  refine gw_iload 4 rfl dX6_bring_3 ?_
  refine gw_sipush (v := (470 : Int32)) (by decide) dX6_bring_5 ?_
  refine gw_icmp_ge (tgt := 29) dX6_bring_8 (by decide) (fun hcnd => ?_) (fun hcnd => ?_)
  · rw [if_pos hcnd] at hB
    obtain ⟨rfl, rfl⟩ := Prod.mk.inj (Option.some.inj hB)
    exact gw_vret rfl rfl rfl dX6_bring_29
  · rw [if_neg hcnd] at hB
    refine gw_aload_n 2 rfl dX6_bring_11 ?_
    refine gw_iload_n 3 rfl dX6_bring_12 ?_
    refine gw_iload 4 rfl dX6_bring_13 ?_
    refine gw_iadd dX6_bring_15 ?_
    refine gw_aload_n 0 rfl dX6_bring_16 ?_
    refine gw_iload_n 1 rfl dX6_bring_17 ?_
    refine gw_iload 4 rfl dX6_bring_18 ?_
    refine gw_iadd dX6_bring_20 ?_
    obtain ⟨v1, hv1, hB⟩ := gB1_some hB
    refine gw_iaload hv1 dX6_bring_21 ?_
    obtain ⟨s2, hs2, hB⟩ := gB1_some hB
    refine gw_iastore hs2 dX6_bring_22 ?_
    refine gw_iinc (w := (1 : Int32)) (L' := [(4, vI (l4 + (1 : Int32))), (0, vR l0), (1, vI l1), (2, vR l2), (3, vI l3)]) 4 rfl (by decide) (Nat.le_of_ble_eq_true rfl) rfl dX6_bring_23 ?_
    refine gw_goto (tgt := 3) dX6_bring_26 (by decide) ?_
    exact gw_sub [1, 2, 3, 4, 0] rfl (hk3 _ _ _ _ _ _ hB)
theorem w_X6_bring_3 {E : gE} {F z0 n0 : Nat} {r : Unit} {s' : gS}   : ∀ (n : Nat) (l0 : Option Nat) (l1 : Int32) (l2 : Option Nat) (l3 : Int32) (l4 : Int32)  (s : gS), f_X6_bring_3 (gk E) F  n l0 l1 l2 l3 l4 s = some (r, s') → W_X6_bring E z0 n0 r s' 3 [(0, vR l0), (1, vI l1), (2, vR l2), (3, vI l3), (4, vI l4)] [] s := by
  intro n
  induction n with
  | zero => intro l0 l1 l2 l3 l4 s hB; cases hB
  | succ n ih => intro l0 l1 l2 l3 l4 s hB; exact w_X6_bring_3b ih l0 l1 l2 l3 l4 s hB
noncomputable def f_X6_bring_0 (κ : gK) (F : Nat)  (l0 : Option Nat) (l1 : Int32) (l2 : Option Nat) (l3 : Int32) (s : gS) : Option (Unit × gS) :=
  f_X6_bring_3 κ F  F l0 l1 l2 l3 (0 : Int32) s
set_option maxHeartbeats 4000000 in
theorem w_X6_bring_0 {E : gE} {F z0 n0 : Nat} {r : Unit} {s' : gS}   : ∀ (l0 : Option Nat) (l1 : Int32) (l2 : Option Nat) (l3 : Int32)  (s : gS), f_X6_bring_0 (gk E) F  l0 l1 l2 l3 s = some (r, s') → W_X6_bring E z0 n0 r s' 0 [(0, vR l0), (1, vI l1), (2, vR l2), (3, vI l3)] [] s := by
  intro l0 l1 l2 l3 s hB
  unfold f_X6_bring_0 at hB
  refine gw_iconst (v := (0 : Int32)) (by decide) dX6_bring_0 ?_
  refine gw_istore (L' := [(4, vI (0 : Int32)), (0, vR l0), (1, vI l1), (2, vR l2), (3, vI l3)]) (Nat.le_of_ble_eq_true rfl) rfl dX6_bring_1 ?_
  exact gw_sub [1, 2, 3, 4, 0] rfl (w_X6_bring_3  F _ _ _ _ _ _ hB)
noncomputable def f_X6_bring (κ : gK) (F : Nat) (a1 : Option Nat) (a2 : Int32) (a3 : Option Nat) (a4 : Int32) (s : gS) : Option (Unit × gS) := f_X6_bring_0 κ F a1 a2 a3 a4 s
theorem m_X6_bring {E : gE} {F : Nat} (a1 : Option Nat) (a2 : Int32) (a3 : Option Nat) (a4 : Int32) (s : gS) (r : Unit) (s' : gS) (h : f_X6_bring (gk E) F a1 a2 a3 a4 s = some (r, s')) : gCT E 1 yX6_bring (ws_ yX6_bring cX6_bring 5 none) [vR a1, vI a2, vR a3, vI a4] s (.inl none) s' := by
  refine gCT_of2 (fun h => absurd h (by decide)) (plainFor_of_name (by decide)) (Nat.le_of_ble_eq_true rfl) ?_
  exact gw_sub [0, 1, 2, 3] rfl (w_X6_bring_0 _ _ _ _ _ h)
def dkwX6_hold_0 : List UInt8 := [42, 3, 181, 0, 32, 42, 180, 0, 7, 3, 42, 180, 0, 13, 3, 184, 0, 35, 177]
abbrev dktX6_hold_0 : List UInt8 := dkwX6_hold_0 ++ []
theorem dksX6_hold_0 : cX6_hold.data.toList.drop 0 = dktX6_hold_0 := by decide +kernel
theorem dX6_hold_0 : decode cX6_hold 0 = .ok (.aload_n 0, 1) := dk_42 (dk_at dksX6_hold_0 0 rfl rfl)
theorem dX6_hold_1 : decode cX6_hold 1 = .ok (.iconst 0, 1) := dk_3 (dk_at dksX6_hold_0 1 rfl rfl)
theorem dX6_hold_2 : decode cX6_hold 2 = .ok (.putfield 32, 3) := dk_181 0 32 (dk_at dksX6_hold_0 2 rfl rfl)
theorem dX6_hold_5 : decode cX6_hold 5 = .ok (.aload_n 0, 1) := dk_42 (dk_at dksX6_hold_0 5 rfl rfl)
theorem dX6_hold_6 : decode cX6_hold 6 = .ok (.getfield 7, 3) := dk_180 0 7 (dk_at dksX6_hold_0 6 rfl rfl)
theorem dX6_hold_9 : decode cX6_hold 9 = .ok (.iconst 0, 1) := dk_3 (dk_at dksX6_hold_0 9 rfl rfl)
theorem dX6_hold_10 : decode cX6_hold 10 = .ok (.aload_n 0, 1) := dk_42 (dk_at dksX6_hold_0 10 rfl rfl)
theorem dX6_hold_11 : decode cX6_hold 11 = .ok (.getfield 13, 3) := dk_180 0 13 (dk_at dksX6_hold_0 11 rfl rfl)
theorem dX6_hold_14 : decode cX6_hold 14 = .ok (.iconst 0, 1) := dk_3 (dk_at dksX6_hold_0 14 rfl rfl)
theorem dX6_hold_15 : decode cX6_hold 15 = .ok (.invokestatic 35, 3) := dk_184 0 35 (dk_at dksX6_hold_0 15 rfl rfl)
theorem dX6_hold_18 : decode cX6_hold 18 = .ok (.return_, 1) := dk_177 (dk_at dksX6_hold_0 18 rfl rfl)
/-! PageGardenModel.hold()V -/
abbrev M_X6_hold (z0 n0 : Nat) (s' : gS) : gM := (RX6, cX6_hold, 1, none, "hold", [], 2, z0, n0, s'.2.1, s'.2.2)
abbrev W_X6_hold (E : gE) (z0 n0 : Nat) (r : Unit) (s' : gS) (pc : Nat) (L : List (Nat × gV)) (st : List gV) (s : gS) : Prop := gW E (M_X6_hold z0 n0 s') (gQm E (M_X6_hold z0 n0 s') (.inl none) s') pc L st s
noncomputable def f_X6_hold_0 (κ : gK) (F : Nat)  (l0 : Option Nat) (s : gS) : Option (Unit × gS) :=
  gB1 (gpf κ s l0 9 7 (.int (0 : Int32))) fun s1 =>
  gB1 (gfR s1 l0 9 0) fun v2 =>
  gB1 (gfR s1 l0 9 1) fun v3 =>
  gB2 (f_X6_bring κ F v2 (0 : Int32) v3 (0 : Int32) s1) fun v5 s4 =>
  some ((), s4)
set_option maxHeartbeats 4000000 in
theorem w_X6_hold_0 {E : gE} {F z0 n0 : Nat} {r : Unit} {s' : gS}   : ∀ (l0 : Option Nat)  (s : gS), f_X6_hold_0 (gk E) F  l0 s = some (r, s') → W_X6_hold E z0 n0 r s' 0 [(0, vR l0)] [] s := by
  intro l0 s hB
  unfold f_X6_hold_0 at hB
  refine gw_aload_n 0 rfl dX6_hold_0 ?_
  refine gw_iconst (v := (0 : Int32)) (by decide) dX6_hold_1 ?_
  obtain ⟨s1, hs1, hB⟩ := gB1_some hB
  refine gw_putf (C := RX6) (T := TX6) (N := 13) (k := 7) tyX6 tyX6_ok nmX6 gcl9 (by decide) in_X6 q2701 rfl (tyX6_ok 7 (by decide)) (gNF_i _) hs1 dX6_hold_2 ?_
  refine gw_aload_n 0 rfl dX6_hold_5 ?_
  obtain ⟨v2, hv2, hB⟩ := gB1_some hB
  refine gw_getf (C := RX6) (T := TX6) (N := 13) (k := 0) gcl9 (by decide) in_X6 q2694 (gfR_spec hv2) dX6_hold_6 ?_
  refine gw_iconst (v := (0 : Int32)) (by decide) dX6_hold_9 ?_
  refine gw_aload_n 0 rfl dX6_hold_10 ?_
  obtain ⟨v3, hv3, hB⟩ := gB1_some hB
  refine gw_getf (C := RX6) (T := TX6) (N := 13) (k := 1) gcl9 (by decide) in_X6 q2695 (gfR_spec hv3) dX6_hold_11 ?_
  refine gw_iconst (v := (0 : Int32)) (by decide) dX6_hold_14 ?_
  obtain ⟨v5, s4, hv5, hB⟩ := gB2_some hB
  refine gw_callS (y := yX6_bring) (lw_S q2746 q2747 q143 q2748) hdS_X6_bring (As := [vR v2, vI (0 : Int32), vR v3, vI (0 : Int32)]) (rest := []) (m_X6_bring _ _ _ _ _ _ _ hv5) (Nat.le_of_ble_eq_true rfl) (Nat.le_of_ble_eq_true rfl) rfl (Nat.le_of_ble_eq_true rfl) dX6_hold_15 (gCont_v ?_)
  obtain ⟨rfl, rfl⟩ := Prod.mk.inj (Option.some.inj hB)
  exact gw_vret rfl rfl rfl dX6_hold_18
noncomputable def f_X6_hold (κ : gK) (F : Nat) (a0 : Option Nat) (s : gS) : Option (Unit × gS) := f_X6_hold_0 κ F a0 s
theorem m_X6_hold {E : gE} {F : Nat} (a0 : Option Nat) (s : gS) (r : Unit) (s' : gS) (h : f_X6_hold (gk E) F a0 s = some (r, s')) : gCT E 2 yX6_hold (ws_ yX6_hold cX6_hold 1 none) [vR a0] s (.inl none) s' := by
  refine gCT_of2 (fun h => absurd h (by decide)) (plainFor_of_name (by decide)) (Nat.le_of_ble_eq_true rfl) ?_
  exact gw_sub [0] rfl (w_X6_hold_0 _ _ h)
def dkwX6_refuse_0 : List UInt8 := [42, 27, 181, 0, 32, 3, 172]
abbrev dktX6_refuse_0 : List UInt8 := dkwX6_refuse_0 ++ []
theorem dksX6_refuse_0 : cX6_refuse.data.toList.drop 0 = dktX6_refuse_0 := by decide +kernel
theorem dX6_refuse_0 : decode cX6_refuse 0 = .ok (.aload_n 0, 1) := dk_42 (dk_at dksX6_refuse_0 0 rfl rfl)
theorem dX6_refuse_1 : decode cX6_refuse 1 = .ok (.iload_n 1, 1) := dk_27 (dk_at dksX6_refuse_0 1 rfl rfl)
theorem dX6_refuse_2 : decode cX6_refuse 2 = .ok (.putfield 32, 3) := dk_181 0 32 (dk_at dksX6_refuse_0 2 rfl rfl)
theorem dX6_refuse_5 : decode cX6_refuse 5 = .ok (.iconst 0, 1) := dk_3 (dk_at dksX6_refuse_0 5 rfl rfl)
theorem dX6_refuse_6 : decode cX6_refuse 6 = .ok (.ireturn, 1) := dk_172 (dk_at dksX6_refuse_0 6 rfl rfl)
/-! PageGardenModel.refuse(I)I -/
abbrev M_X6_refuse (z0 n0 : Nat) (s' : gS) : gM := (RX6, cX6_refuse, 2, (some FieldType.int), "refuse", [], 1, z0, n0, s'.2.1, s'.2.2)
abbrev W_X6_refuse (E : gE) (z0 n0 : Nat) (r : Int32) (s' : gS) (pc : Nat) (L : List (Nat × gV)) (st : List gV) (s : gS) : Prop := gW E (M_X6_refuse z0 n0 s') (gQm E (M_X6_refuse z0 n0 s') (.inl (some (vI r))) s') pc L st s
noncomputable def f_X6_refuse_0 (κ : gK) (F : Nat)  (l0 : Option Nat) (l1 : Int32) (s : gS) : Option (Int32 × gS) :=
  gB1 (gpf κ s l0 9 7 (.int l1)) fun s1 =>
  some ((0 : Int32), s1)
set_option maxHeartbeats 4000000 in
theorem w_X6_refuse_0 {E : gE} {F z0 n0 : Nat} {r : Int32} {s' : gS}   : ∀ (l0 : Option Nat) (l1 : Int32)  (s : gS), f_X6_refuse_0 (gk E) F  l0 l1 s = some (r, s') → W_X6_refuse E z0 n0 r s' 0 [(0, vR l0), (1, vI l1)] [] s := by
  intro l0 l1 s hB
  unfold f_X6_refuse_0 at hB
  refine gw_aload_n 0 rfl dX6_refuse_0 ?_
  refine gw_iload_n 1 rfl dX6_refuse_1 ?_
  obtain ⟨s1, hs1, hB⟩ := gB1_some hB
  refine gw_putf (C := RX6) (T := TX6) (N := 13) (k := 7) tyX6 tyX6_ok nmX6 gcl9 (by decide) in_X6 q2701 rfl (tyX6_ok 7 (by decide)) (gNF_i _) hs1 dX6_refuse_2 ?_
  refine gw_iconst (v := (0 : Int32)) (by decide) dX6_refuse_5 ?_
  obtain ⟨rfl, rfl⟩ := Prod.mk.inj (Option.some.inj hB)
  exact gw_iret rfl rfl rfl dX6_refuse_6
noncomputable def f_X6_refuse (κ : gK) (F : Nat) (a0 : Option Nat) (a1 : Int32) (s : gS) : Option (Int32 × gS) := f_X6_refuse_0 κ F a0 a1 s
theorem m_X6_refuse {E : gE} {F : Nat} (a0 : Option Nat) (a1 : Int32) (s : gS) (r : Int32) (s' : gS) (h : f_X6_refuse (gk E) F a0 a1 s = some (r, s')) : gCT E 1 yX6_refuse (ws_ yX6_refuse cX6_refuse 2 (some FieldType.int)) [vR a0, vI a1] s (.inl (some (vI r))) s' := by
  refine gCT_of2 (fun h => absurd h (by decide)) (plainFor_of_name (by decide)) (Nat.le_of_ble_eq_true rfl) ?_
  exact gw_sub [0, 1] rfl (w_X6_refuse_0 _ _ _ h)
def dkwX6_current_2 : List UInt8 := [27, 153, 0, 7, 4, 167, 0, 4, 3, 172]
abbrev dktX6_current_2 : List UInt8 := dkwX6_current_2 ++ []
def dkwX6_current_1 : List UInt8 := [180, 0, 7, 17, 1, 195, 46, 42, 180, 0, 7, 17, 1, 192, 46, 164, 0, 7, 4, 167, 0, 4, 3, 60]
abbrev dktX6_current_1 : List UInt8 := dkwX6_current_1 ++ dktX6_current_2
def dkwX6_current_0 : List UInt8 := [42, 180, 0, 7, 17, 1, 197, 46, 4, 160, 0, 37, 42, 180, 0, 7, 17, 1, 194, 46, 153, 0, 22, 42]
abbrev dktX6_current_0 : List UInt8 := dkwX6_current_0 ++ dktX6_current_1
theorem dksX6_current_0 : cX6_current.data.toList.drop 0 = dktX6_current_0 := by decide +kernel
theorem dksX6_current_1 : cX6_current.data.toList.drop 24 = dktX6_current_1 := dk_seg dksX6_current_0 24 rfl rfl
theorem dksX6_current_2 : cX6_current.data.toList.drop 48 = dktX6_current_2 := dk_seg dksX6_current_1 24 rfl rfl
theorem dX6_current_0 : decode cX6_current 0 = .ok (.aload_n 0, 1) := dk_42 (dk_at dksX6_current_0 0 rfl rfl)
theorem dX6_current_1 : decode cX6_current 1 = .ok (.getfield 7, 3) := dk_180 0 7 (dk_at dksX6_current_0 1 rfl rfl)
theorem dX6_current_4 : decode cX6_current 4 = .ok (.sipush 453, 3) := dk_17 1 197 (dk_at dksX6_current_0 4 rfl rfl)
theorem dX6_current_7 : decode cX6_current 7 = .ok (.iaload, 1) := dk_46 (dk_at dksX6_current_0 7 rfl rfl)
theorem dX6_current_8 : decode cX6_current 8 = .ok (.iconst 1, 1) := dk_4 (dk_at dksX6_current_0 8 rfl rfl)
theorem dX6_current_9 : decode cX6_current 9 = .ok (.if_icmp .ne 37, 3) := dk_160 0 37 (dk_at dksX6_current_0 9 rfl rfl)
theorem dX6_current_12 : decode cX6_current 12 = .ok (.aload_n 0, 1) := dk_42 (dk_at dksX6_current_0 12 rfl rfl)
theorem dX6_current_13 : decode cX6_current 13 = .ok (.getfield 7, 3) := dk_180 0 7 (dk_at dksX6_current_0 13 rfl rfl)
theorem dX6_current_16 : decode cX6_current 16 = .ok (.sipush 450, 3) := dk_17 1 194 (dk_at dksX6_current_0 16 rfl rfl)
theorem dX6_current_19 : decode cX6_current 19 = .ok (.iaload, 1) := dk_46 (dk_at dksX6_current_0 19 rfl rfl)
theorem dX6_current_20 : decode cX6_current 20 = .ok (.ifCond .eq 22, 3) := dk_153 0 22 (dk_at dksX6_current_0 20 rfl rfl)
theorem dX6_current_23 : decode cX6_current 23 = .ok (.aload_n 0, 1) := dk_42 (dk_at dksX6_current_0 23 rfl rfl)
theorem dX6_current_24 : decode cX6_current 24 = .ok (.getfield 7, 3) := dk_180 0 7 (dk_at dksX6_current_1 0 rfl rfl)
theorem dX6_current_27 : decode cX6_current 27 = .ok (.sipush 451, 3) := dk_17 1 195 (dk_at dksX6_current_1 3 rfl rfl)
theorem dX6_current_30 : decode cX6_current 30 = .ok (.iaload, 1) := dk_46 (dk_at dksX6_current_1 6 rfl rfl)
theorem dX6_current_31 : decode cX6_current 31 = .ok (.aload_n 0, 1) := dk_42 (dk_at dksX6_current_1 7 rfl rfl)
theorem dX6_current_32 : decode cX6_current 32 = .ok (.getfield 7, 3) := dk_180 0 7 (dk_at dksX6_current_1 8 rfl rfl)
theorem dX6_current_35 : decode cX6_current 35 = .ok (.sipush 448, 3) := dk_17 1 192 (dk_at dksX6_current_1 11 rfl rfl)
theorem dX6_current_38 : decode cX6_current 38 = .ok (.iaload, 1) := dk_46 (dk_at dksX6_current_1 14 rfl rfl)
theorem dX6_current_39 : decode cX6_current 39 = .ok (.if_icmp .le 7, 3) := dk_164 0 7 (dk_at dksX6_current_1 15 rfl rfl)
theorem dX6_current_42 : decode cX6_current 42 = .ok (.iconst 1, 1) := dk_4 (dk_at dksX6_current_1 18 rfl rfl)
theorem dX6_current_43 : decode cX6_current 43 = .ok (.goto 4, 3) := dk_167 0 4 (dk_at dksX6_current_1 19 rfl rfl)
theorem dX6_current_46 : decode cX6_current 46 = .ok (.iconst 0, 1) := dk_3 (dk_at dksX6_current_1 22 rfl rfl)
theorem dX6_current_47 : decode cX6_current 47 = .ok (.istore_n 1, 1) := dk_60 (dk_at dksX6_current_1 23 rfl rfl)
theorem dX6_current_48 : decode cX6_current 48 = .ok (.iload_n 1, 1) := dk_27 (dk_at dksX6_current_2 0 rfl rfl)
theorem dX6_current_49 : decode cX6_current 49 = .ok (.ifCond .eq 7, 3) := dk_153 0 7 (dk_at dksX6_current_2 1 rfl rfl)
theorem dX6_current_52 : decode cX6_current 52 = .ok (.iconst 1, 1) := dk_4 (dk_at dksX6_current_2 4 rfl rfl)
theorem dX6_current_53 : decode cX6_current 53 = .ok (.goto 4, 3) := dk_167 0 4 (dk_at dksX6_current_2 5 rfl rfl)
theorem dX6_current_56 : decode cX6_current 56 = .ok (.iconst 0, 1) := dk_3 (dk_at dksX6_current_2 8 rfl rfl)
theorem dX6_current_57 : decode cX6_current 57 = .ok (.ireturn, 1) := dk_172 (dk_at dksX6_current_2 9 rfl rfl)
/-! PageGardenModel.current()I -/
abbrev M_X6_current (z0 n0 : Nat) (s' : gS) : gM := (RX6, cX6_current, 2, (some FieldType.int), "current", [], 1, z0, n0, s'.2.1, s'.2.2)
abbrev W_X6_current (E : gE) (z0 n0 : Nat) (r : Int32) (s' : gS) (pc : Nat) (L : List (Nat × gV)) (st : List gV) (s : gS) : Prop := gW E (M_X6_current z0 n0 s') (gQm E (M_X6_current z0 n0 s') (.inl (some (vI r))) s') pc L st s
noncomputable def f_X6_current_57 (κ : gK) (F : Nat)  (t0 : Int32) (s : gS) : Option (Int32 × gS) :=
  some (t0, s)
set_option maxHeartbeats 4000000 in
theorem w_X6_current_57 {E : gE} {F z0 n0 : Nat} {r : Int32} {s' : gS}   : ∀  (t0 : Int32) (s : gS), f_X6_current_57 (gk E) F  t0 s = some (r, s') → W_X6_current E z0 n0 r s' 57 [] [vI t0] s := by
  intro t0 s hB
  unfold f_X6_current_57 at hB
  obtain ⟨rfl, rfl⟩ := Prod.mk.inj (Option.some.inj hB)
  exact gw_iret rfl rfl rfl dX6_current_57
noncomputable def f_X6_current_47 (κ : gK) (F : Nat)  (t0 : Int32) (s : gS) : Option (Int32 × gS) :=
  if t0 = 0 then
    f_X6_current_57 κ F  (0 : Int32) s
  else
    f_X6_current_57 κ F  (1 : Int32) s
set_option maxHeartbeats 4000000 in
theorem w_X6_current_47 {E : gE} {F z0 n0 : Nat} {r : Int32} {s' : gS}   : ∀  (t0 : Int32) (s : gS), f_X6_current_47 (gk E) F  t0 s = some (r, s') → W_X6_current E z0 n0 r s' 47 [] [vI t0] s := by
  intro t0 s hB
  unfold f_X6_current_47 at hB
  refine gw_istore_n (L' := [(1, vI t0)]) (Nat.le_of_ble_eq_true rfl) rfl dX6_current_47 ?_
  refine gw_iload_n 0 rfl dX6_current_48 ?_
  refine gw_if_eq (tgt := 56) dX6_current_49 (by decide) (fun hcnd => ?_) (fun hcnd => ?_)
  · rw [if_pos hcnd] at hB
    refine gw_iconst (v := (0 : Int32)) (by decide) dX6_current_56 ?_
    exact gw_sub [] rfl (w_X6_current_57  _ _ hB)
  · rw [if_neg hcnd] at hB
    refine gw_iconst (v := (1 : Int32)) (by decide) dX6_current_52 ?_
    refine gw_goto (tgt := 57) dX6_current_53 (by decide) ?_
    exact gw_sub [] rfl (w_X6_current_57  _ _ hB)
noncomputable def f_X6_current_42 (κ : gK) (F : Nat)   (s : gS) : Option (Int32 × gS) :=
  f_X6_current_47 κ F  (1 : Int32) s
set_option maxHeartbeats 4000000 in
theorem w_X6_current_42 {E : gE} {F z0 n0 : Nat} {r : Int32} {s' : gS}   : ∀   (s : gS), f_X6_current_42 (gk E) F   s = some (r, s') → W_X6_current E z0 n0 r s' 42 [] [] s := by
  intro  s hB
  unfold f_X6_current_42 at hB
  refine gw_iconst (v := (1 : Int32)) (by decide) dX6_current_42 ?_
  refine gw_goto (tgt := 47) dX6_current_43 (by decide) ?_
  exact gw_sub [] rfl (w_X6_current_47  _ _ hB)
noncomputable def f_X6_current_46 (κ : gK) (F : Nat)   (s : gS) : Option (Int32 × gS) :=
  f_X6_current_47 κ F  (0 : Int32) s
set_option maxHeartbeats 4000000 in
theorem w_X6_current_46 {E : gE} {F z0 n0 : Nat} {r : Int32} {s' : gS}   : ∀   (s : gS), f_X6_current_46 (gk E) F   s = some (r, s') → W_X6_current E z0 n0 r s' 46 [] [] s := by
  intro  s hB
  unfold f_X6_current_46 at hB
  refine gw_iconst (v := (0 : Int32)) (by decide) dX6_current_46 ?_
  exact gw_sub [] rfl (w_X6_current_47  _ _ hB)
noncomputable def f_X6_current_0 (κ : gK) (F : Nat)  (l0 : Option Nat) (s : gS) : Option (Int32 × gS) :=
  gB1 (gfR s l0 9 0) fun v1 =>
  gB1 (gaI s v1 0 (453 : Int32)) fun v2 =>
  if v2 = (1 : Int32) then
    gB1 (gfR s l0 9 0) fun v3 =>
    gB1 (gaI s v3 0 (450 : Int32)) fun v4 =>
    if v4 = 0 then
      f_X6_current_42 κ F  s
    else
      gB1 (gfR s l0 9 0) fun v5 =>
      gB1 (gaI s v5 0 (451 : Int32)) fun v6 =>
      gB1 (gfR s l0 9 0) fun v7 =>
      gB1 (gaI s v7 0 (448 : Int32)) fun v8 =>
      if v6 ≤ v8 then
        f_X6_current_46 κ F  s
      else
        f_X6_current_42 κ F  s
  else
    f_X6_current_46 κ F  s
set_option maxHeartbeats 4000000 in
theorem w_X6_current_0 {E : gE} {F z0 n0 : Nat} {r : Int32} {s' : gS}   : ∀ (l0 : Option Nat)  (s : gS), f_X6_current_0 (gk E) F  l0 s = some (r, s') → W_X6_current E z0 n0 r s' 0 [(0, vR l0)] [] s := by
  intro l0 s hB
  unfold f_X6_current_0 at hB
  refine gw_aload_n 0 rfl dX6_current_0 ?_
  obtain ⟨v1, hv1, hB⟩ := gB1_some hB
  refine gw_getf (C := RX6) (T := TX6) (N := 13) (k := 0) gcl9 (by decide) in_X6 q2694 (gfR_spec hv1) dX6_current_1 ?_
  refine gw_sipush (v := (453 : Int32)) (by decide) dX6_current_4 ?_
  obtain ⟨v2, hv2, hB⟩ := gB1_some hB
  refine gw_iaload hv2 dX6_current_7 ?_
  refine gw_iconst (v := (1 : Int32)) (by decide) dX6_current_8 ?_
  refine gw_icmp_ne (tgt := 46) dX6_current_9 (by decide) (fun hcnd => ?_) (fun hcnd => ?_)
  · rw [if_neg hcnd] at hB
    exact gw_sub [] rfl (w_X6_current_46   _ hB)
  · rw [if_pos hcnd] at hB
    refine gw_aload_n 0 rfl dX6_current_12 ?_
    obtain ⟨v3, hv3, hB⟩ := gB1_some hB
    refine gw_getf (C := RX6) (T := TX6) (N := 13) (k := 0) gcl9 (by decide) in_X6 q2694 (gfR_spec hv3) dX6_current_13 ?_
    refine gw_sipush (v := (450 : Int32)) (by decide) dX6_current_16 ?_
    obtain ⟨v4, hv4, hB⟩ := gB1_some hB
    refine gw_iaload hv4 dX6_current_19 ?_
    refine gw_if_eq (tgt := 42) dX6_current_20 (by decide) (fun hcnd => ?_) (fun hcnd => ?_)
    · rw [if_pos hcnd] at hB
      exact gw_sub [] rfl (w_X6_current_42   _ hB)
    · rw [if_neg hcnd] at hB
      refine gw_aload_n 0 rfl dX6_current_23 ?_
      obtain ⟨v5, hv5, hB⟩ := gB1_some hB
      refine gw_getf (C := RX6) (T := TX6) (N := 13) (k := 0) gcl9 (by decide) in_X6 q2694 (gfR_spec hv5) dX6_current_24 ?_
      refine gw_sipush (v := (451 : Int32)) (by decide) dX6_current_27 ?_
      obtain ⟨v6, hv6, hB⟩ := gB1_some hB
      refine gw_iaload hv6 dX6_current_30 ?_
      refine gw_aload_n 0 rfl dX6_current_31 ?_
      obtain ⟨v7, hv7, hB⟩ := gB1_some hB
      refine gw_getf (C := RX6) (T := TX6) (N := 13) (k := 0) gcl9 (by decide) in_X6 q2694 (gfR_spec hv7) dX6_current_32 ?_
      refine gw_sipush (v := (448 : Int32)) (by decide) dX6_current_35 ?_
      obtain ⟨v8, hv8, hB⟩ := gB1_some hB
      refine gw_iaload hv8 dX6_current_38 ?_
      refine gw_icmp_le (tgt := 46) dX6_current_39 (by decide) (fun hcnd => ?_) (fun hcnd => ?_)
      · rw [if_pos hcnd] at hB
        exact gw_sub [] rfl (w_X6_current_46   _ hB)
      · rw [if_neg hcnd] at hB
        exact gw_sub [] rfl (w_X6_current_42   _ hB)
noncomputable def f_X6_current (κ : gK) (F : Nat) (a0 : Option Nat) (s : gS) : Option (Int32 × gS) := f_X6_current_0 κ F a0 s
theorem m_X6_current {E : gE} {F : Nat} (a0 : Option Nat) (s : gS) (r : Int32) (s' : gS) (h : f_X6_current (gk E) F a0 s = some (r, s')) : gCT E 1 yX6_current (ws_ yX6_current cX6_current 2 (some FieldType.int)) [vR a0] s (.inl (some (vI r))) s' := by
  refine gCT_of2 (fun h => absurd h (by decide)) (plainFor_of_name (by decide)) (Nat.le_of_ble_eq_true rfl) ?_
  exact gw_sub [0] rfl (w_X6_current_0 _ _ h)
def dkwX6_ofRoot_0 : List UInt8 := [42, 180, 0, 7, 17, 1, 192, 6, 27, 104, 96, 28, 96, 46, 172]
abbrev dktX6_ofRoot_0 : List UInt8 := dkwX6_ofRoot_0 ++ []
theorem dksX6_ofRoot_0 : cX6_ofRoot.data.toList.drop 0 = dktX6_ofRoot_0 := by decide +kernel
theorem dX6_ofRoot_0 : decode cX6_ofRoot 0 = .ok (.aload_n 0, 1) := dk_42 (dk_at dksX6_ofRoot_0 0 rfl rfl)
theorem dX6_ofRoot_1 : decode cX6_ofRoot 1 = .ok (.getfield 7, 3) := dk_180 0 7 (dk_at dksX6_ofRoot_0 1 rfl rfl)
theorem dX6_ofRoot_4 : decode cX6_ofRoot 4 = .ok (.sipush 448, 3) := dk_17 1 192 (dk_at dksX6_ofRoot_0 4 rfl rfl)
theorem dX6_ofRoot_7 : decode cX6_ofRoot 7 = .ok (.iconst 3, 1) := dk_6 (dk_at dksX6_ofRoot_0 7 rfl rfl)
theorem dX6_ofRoot_8 : decode cX6_ofRoot 8 = .ok (.iload_n 1, 1) := dk_27 (dk_at dksX6_ofRoot_0 8 rfl rfl)
theorem dX6_ofRoot_9 : decode cX6_ofRoot 9 = .ok (.imul, 1) := dk_104 (dk_at dksX6_ofRoot_0 9 rfl rfl)
theorem dX6_ofRoot_10 : decode cX6_ofRoot 10 = .ok (.iadd, 1) := dk_96 (dk_at dksX6_ofRoot_0 10 rfl rfl)
theorem dX6_ofRoot_11 : decode cX6_ofRoot 11 = .ok (.iload_n 2, 1) := dk_28 (dk_at dksX6_ofRoot_0 11 rfl rfl)
theorem dX6_ofRoot_12 : decode cX6_ofRoot 12 = .ok (.iadd, 1) := dk_96 (dk_at dksX6_ofRoot_0 12 rfl rfl)
theorem dX6_ofRoot_13 : decode cX6_ofRoot 13 = .ok (.iaload, 1) := dk_46 (dk_at dksX6_ofRoot_0 13 rfl rfl)
theorem dX6_ofRoot_14 : decode cX6_ofRoot 14 = .ok (.ireturn, 1) := dk_172 (dk_at dksX6_ofRoot_0 14 rfl rfl)
/-! PageGardenModel.ofRoot(II)I -/
abbrev M_X6_ofRoot (z0 n0 : Nat) (s' : gS) : gM := (RX6, cX6_ofRoot, 3, (some FieldType.int), "ofRoot", [], 1, z0, n0, s'.2.1, s'.2.2)
abbrev W_X6_ofRoot (E : gE) (z0 n0 : Nat) (r : Int32) (s' : gS) (pc : Nat) (L : List (Nat × gV)) (st : List gV) (s : gS) : Prop := gW E (M_X6_ofRoot z0 n0 s') (gQm E (M_X6_ofRoot z0 n0 s') (.inl (some (vI r))) s') pc L st s
noncomputable def f_X6_ofRoot_0 (κ : gK) (F : Nat)  (l0 : Option Nat) (l1 : Int32) (l2 : Int32) (s : gS) : Option (Int32 × gS) :=
  gB1 (gfR s l0 9 0) fun v1 =>
  gB1 (gaI s v1 0 (((448 : Int32) + ((3 : Int32) * l1)) + l2)) fun v2 =>
  some (v2, s)
set_option maxHeartbeats 4000000 in
theorem w_X6_ofRoot_0 {E : gE} {F z0 n0 : Nat} {r : Int32} {s' : gS}   : ∀ (l0 : Option Nat) (l1 : Int32) (l2 : Int32)  (s : gS), f_X6_ofRoot_0 (gk E) F  l0 l1 l2 s = some (r, s') → W_X6_ofRoot E z0 n0 r s' 0 [(0, vR l0), (1, vI l1), (2, vI l2)] [] s := by
  intro l0 l1 l2 s hB
  unfold f_X6_ofRoot_0 at hB
  refine gw_aload_n 0 rfl dX6_ofRoot_0 ?_
  obtain ⟨v1, hv1, hB⟩ := gB1_some hB
  refine gw_getf (C := RX6) (T := TX6) (N := 13) (k := 0) gcl9 (by decide) in_X6 q2694 (gfR_spec hv1) dX6_ofRoot_1 ?_
  refine gw_sipush (v := (448 : Int32)) (by decide) dX6_ofRoot_4 ?_
  refine gw_iconst (v := (3 : Int32)) (by decide) dX6_ofRoot_7 ?_
  refine gw_iload_n 1 rfl dX6_ofRoot_8 ?_
  refine gw_imul dX6_ofRoot_9 ?_
  refine gw_iadd dX6_ofRoot_10 ?_
  refine gw_iload_n 2 rfl dX6_ofRoot_11 ?_
  refine gw_iadd dX6_ofRoot_12 ?_
  obtain ⟨v2, hv2, hB⟩ := gB1_some hB
  refine gw_iaload hv2 dX6_ofRoot_13 ?_
  obtain ⟨rfl, rfl⟩ := Prod.mk.inj (Option.some.inj hB)
  exact gw_iret rfl rfl rfl dX6_ofRoot_14
noncomputable def f_X6_ofRoot (κ : gK) (F : Nat) (a0 : Option Nat) (a1 : Int32) (a2 : Int32) (s : gS) : Option (Int32 × gS) := f_X6_ofRoot_0 κ F a0 a1 a2 s
theorem m_X6_ofRoot {E : gE} {F : Nat} (a0 : Option Nat) (a1 : Int32) (a2 : Int32) (s : gS) (r : Int32) (s' : gS) (h : f_X6_ofRoot (gk E) F a0 a1 a2 s = some (r, s')) : gCT E 1 yX6_ofRoot (ws_ yX6_ofRoot cX6_ofRoot 3 (some FieldType.int)) [vR a0, vI a1, vI a2] s (.inl (some (vI r))) s' := by
  refine gCT_of2 (fun h => absurd h (by decide)) (plainFor_of_name (by decide)) (Nat.le_of_ble_eq_true rfl) ?_
  exact gw_sub [0, 1, 2] rfl (w_X6_ofRoot_0 _ _ _ _ h)
def dkwX6_doBegin_1 : List UInt8 := [17, 1, 210, 4, 79, 42, 180, 0, 7, 17, 1, 211, 2, 79, 42, 42, 182, 0, 42, 3, 182, 0, 46, 172]
abbrev dktX6_doBegin_1 : List UInt8 := dkwX6_doBegin_1 ++ []
def dkwX6_doBegin_0 : List UInt8 := [42, 180, 0, 7, 17, 1, 210, 46, 4, 160, 0, 9, 42, 4, 182, 0, 117, 172, 42, 180, 0, 7]
abbrev dktX6_doBegin_0 : List UInt8 := dkwX6_doBegin_0 ++ dktX6_doBegin_1
theorem dksX6_doBegin_0 : cX6_doBegin.data.toList.drop 0 = dktX6_doBegin_0 := by decide +kernel
theorem dksX6_doBegin_1 : cX6_doBegin.data.toList.drop 22 = dktX6_doBegin_1 := dk_seg dksX6_doBegin_0 22 rfl rfl
theorem dX6_doBegin_0 : decode cX6_doBegin 0 = .ok (.aload_n 0, 1) := dk_42 (dk_at dksX6_doBegin_0 0 rfl rfl)
theorem dX6_doBegin_1 : decode cX6_doBegin 1 = .ok (.getfield 7, 3) := dk_180 0 7 (dk_at dksX6_doBegin_0 1 rfl rfl)
theorem dX6_doBegin_4 : decode cX6_doBegin 4 = .ok (.sipush 466, 3) := dk_17 1 210 (dk_at dksX6_doBegin_0 4 rfl rfl)
theorem dX6_doBegin_7 : decode cX6_doBegin 7 = .ok (.iaload, 1) := dk_46 (dk_at dksX6_doBegin_0 7 rfl rfl)
theorem dX6_doBegin_8 : decode cX6_doBegin 8 = .ok (.iconst 1, 1) := dk_4 (dk_at dksX6_doBegin_0 8 rfl rfl)
theorem dX6_doBegin_9 : decode cX6_doBegin 9 = .ok (.if_icmp .ne 9, 3) := dk_160 0 9 (dk_at dksX6_doBegin_0 9 rfl rfl)
theorem dX6_doBegin_12 : decode cX6_doBegin 12 = .ok (.aload_n 0, 1) := dk_42 (dk_at dksX6_doBegin_0 12 rfl rfl)
theorem dX6_doBegin_13 : decode cX6_doBegin 13 = .ok (.iconst 1, 1) := dk_4 (dk_at dksX6_doBegin_0 13 rfl rfl)
theorem dX6_doBegin_14 : decode cX6_doBegin 14 = .ok (.invokevirtual 117, 3) := dk_182 0 117 (dk_at dksX6_doBegin_0 14 rfl rfl)
theorem dX6_doBegin_17 : decode cX6_doBegin 17 = .ok (.ireturn, 1) := dk_172 (dk_at dksX6_doBegin_0 17 rfl rfl)
theorem dX6_doBegin_18 : decode cX6_doBegin 18 = .ok (.aload_n 0, 1) := dk_42 (dk_at dksX6_doBegin_0 18 rfl rfl)
theorem dX6_doBegin_19 : decode cX6_doBegin 19 = .ok (.getfield 7, 3) := dk_180 0 7 (dk_at dksX6_doBegin_0 19 rfl rfl)
theorem dX6_doBegin_22 : decode cX6_doBegin 22 = .ok (.sipush 466, 3) := dk_17 1 210 (dk_at dksX6_doBegin_1 0 rfl rfl)
theorem dX6_doBegin_25 : decode cX6_doBegin 25 = .ok (.iconst 1, 1) := dk_4 (dk_at dksX6_doBegin_1 3 rfl rfl)
theorem dX6_doBegin_26 : decode cX6_doBegin 26 = .ok (.iastore, 1) := dk_79 (dk_at dksX6_doBegin_1 4 rfl rfl)
theorem dX6_doBegin_27 : decode cX6_doBegin 27 = .ok (.aload_n 0, 1) := dk_42 (dk_at dksX6_doBegin_1 5 rfl rfl)
theorem dX6_doBegin_28 : decode cX6_doBegin 28 = .ok (.getfield 7, 3) := dk_180 0 7 (dk_at dksX6_doBegin_1 6 rfl rfl)
theorem dX6_doBegin_31 : decode cX6_doBegin 31 = .ok (.sipush 467, 3) := dk_17 1 211 (dk_at dksX6_doBegin_1 9 rfl rfl)
theorem dX6_doBegin_34 : decode cX6_doBegin 34 = .ok (.iconst (-1), 1) := dk_2 (dk_at dksX6_doBegin_1 12 rfl rfl)
theorem dX6_doBegin_35 : decode cX6_doBegin 35 = .ok (.iastore, 1) := dk_79 (dk_at dksX6_doBegin_1 13 rfl rfl)
theorem dX6_doBegin_36 : decode cX6_doBegin 36 = .ok (.aload_n 0, 1) := dk_42 (dk_at dksX6_doBegin_1 14 rfl rfl)
theorem dX6_doBegin_37 : decode cX6_doBegin 37 = .ok (.aload_n 0, 1) := dk_42 (dk_at dksX6_doBegin_1 15 rfl rfl)
theorem dX6_doBegin_38 : decode cX6_doBegin 38 = .ok (.invokevirtual 42, 3) := dk_182 0 42 (dk_at dksX6_doBegin_1 16 rfl rfl)
theorem dX6_doBegin_41 : decode cX6_doBegin 41 = .ok (.iconst 0, 1) := dk_3 (dk_at dksX6_doBegin_1 19 rfl rfl)
theorem dX6_doBegin_42 : decode cX6_doBegin 42 = .ok (.invokevirtual 46, 3) := dk_182 0 46 (dk_at dksX6_doBegin_1 20 rfl rfl)
theorem dX6_doBegin_45 : decode cX6_doBegin 45 = .ok (.ireturn, 1) := dk_172 (dk_at dksX6_doBegin_1 23 rfl rfl)
/-! PageGardenModel.doBegin()I -/
abbrev M_X6_doBegin (z0 n0 : Nat) (s' : gS) : gM := (RX6, cX6_doBegin, 1, (some FieldType.int), "doBegin", [], 2, z0, n0, s'.2.1, s'.2.2)
abbrev W_X6_doBegin (E : gE) (z0 n0 : Nat) (r : Int32) (s' : gS) (pc : Nat) (L : List (Nat × gV)) (st : List gV) (s : gS) : Prop := gW E (M_X6_doBegin z0 n0 s') (gQm E (M_X6_doBegin z0 n0 s') (.inl (some (vI r))) s') pc L st s
noncomputable def f_X6_doBegin_0 (κ : gK) (F : Nat)  (l0 : Option Nat) (s : gS) : Option (Int32 × gS) :=
  gB1 (gfR s l0 9 0) fun v1 =>
  gB1 (gaI s v1 0 (466 : Int32)) fun v2 =>
  if v2 = (1 : Int32) then
    gB1 (gck s l0 9) fun _ =>
    gB2 (f_X6_refuse κ F l0 (1 : Int32) s) fun v14 s13 =>
    some (v14, s13)
  else
    gB1 (gfR s l0 9 0) fun v3 =>
    gB1 (gsI κ s v3 (466 : Int32) (1 : Int32)) fun s4 =>
    gB1 (gfR s4 l0 9 0) fun v5 =>
    gB1 (gsI κ s4 v5 (467 : Int32) (-1 : Int32)) fun s6 =>
    gB1 (gck s6 l0 9) fun _ =>
    gB2 (f_X6_current κ F l0  s6) fun v8 s7 =>
    gB1 (gck s7 l0 9) fun _ =>
    gB2 (f_X6_ofRoot κ F l0 v8 (0 : Int32) s7) fun v11 s10 =>
    some (v11, s10)
set_option maxHeartbeats 4000000 in
theorem w_X6_doBegin_0 {E : gE} {F z0 n0 : Nat} {r : Int32} {s' : gS}   : ∀ (l0 : Option Nat)  (s : gS), f_X6_doBegin_0 (gk E) F  l0 s = some (r, s') → W_X6_doBegin E z0 n0 r s' 0 [(0, vR l0)] [] s := by
  intro l0 s hB
  unfold f_X6_doBegin_0 at hB
  refine gw_aload_n 0 rfl dX6_doBegin_0 ?_
  obtain ⟨v1, hv1, hB⟩ := gB1_some hB
  refine gw_getf (C := RX6) (T := TX6) (N := 13) (k := 0) gcl9 (by decide) in_X6 q2694 (gfR_spec hv1) dX6_doBegin_1 ?_
  refine gw_sipush (v := (466 : Int32)) (by decide) dX6_doBegin_4 ?_
  obtain ⟨v2, hv2, hB⟩ := gB1_some hB
  refine gw_iaload hv2 dX6_doBegin_7 ?_
  refine gw_iconst (v := (1 : Int32)) (by decide) dX6_doBegin_8 ?_
  refine gw_icmp_ne (tgt := 18) dX6_doBegin_9 (by decide) (fun hcnd => ?_) (fun hcnd => ?_)
  · rw [if_neg hcnd] at hB
    refine gw_aload_n 0 rfl dX6_doBegin_18 ?_
    obtain ⟨v3, hv3, hB⟩ := gB1_some hB
    refine gw_getf (C := RX6) (T := TX6) (N := 13) (k := 0) gcl9 (by decide) in_X6 q2694 (gfR_spec hv3) dX6_doBegin_19 ?_
    refine gw_sipush (v := (466 : Int32)) (by decide) dX6_doBegin_22 ?_
    refine gw_iconst (v := (1 : Int32)) (by decide) dX6_doBegin_25 ?_
    obtain ⟨s4, hs4, hB⟩ := gB1_some hB
    refine gw_iastore hs4 dX6_doBegin_26 ?_
    refine gw_aload_n 0 rfl dX6_doBegin_27 ?_
    obtain ⟨v5, hv5, hB⟩ := gB1_some hB
    refine gw_getf (C := RX6) (T := TX6) (N := 13) (k := 0) gcl9 (by decide) in_X6 q2694 (gfR_spec hv5) dX6_doBegin_28 ?_
    refine gw_sipush (v := (467 : Int32)) (by decide) dX6_doBegin_31 ?_
    refine gw_iconst (v := (-1 : Int32)) (by decide) dX6_doBegin_34 ?_
    obtain ⟨s6, hs6, hB⟩ := gB1_some hB
    refine gw_iastore hs6 dX6_doBegin_35 ?_
    refine gw_aload_n 0 rfl dX6_doBegin_36 ?_
    refine gw_aload_n 0 rfl dX6_doBegin_37 ?_
    obtain ⟨u0, hu9, hB⟩ := gB1_some hB
    obtain ⟨v8, s7, hv8, hB⟩ := gB2_some hB
    refine gw_callV (y := yX6_current) (lw_V q2757 q2759 qs50 q143 q2760) hdV_X6_current gcl9 hu9 (As := []) (rest := [vR l0]) (m_X6_current _ _ _ _ hv8) (Nat.le_of_ble_eq_true rfl) (Nat.le_of_ble_eq_true rfl) rfl (Nat.le_of_ble_eq_true rfl) dX6_doBegin_38 (gCont_i ?_)
    refine gw_iconst (v := (0 : Int32)) (by decide) dX6_doBegin_41 ?_
    obtain ⟨u0, hu12, hB⟩ := gB1_some hB
    obtain ⟨v11, s10, hv11, hB⟩ := gB2_some hB
    refine gw_callV (y := yX6_ofRoot) (lw_V q2761 q2763 qs51 q143 q2764) hdV_X6_ofRoot gcl9 hu12 (As := [vI v8, vI (0 : Int32)]) (rest := []) (m_X6_ofRoot _ _ _ _ _ _ hv11) (Nat.le_of_ble_eq_true rfl) (Nat.le_of_ble_eq_true rfl) rfl (Nat.le_of_ble_eq_true rfl) dX6_doBegin_42 (gCont_i ?_)
    obtain ⟨rfl, rfl⟩ := Prod.mk.inj (Option.some.inj hB)
    exact gw_iret rfl rfl rfl dX6_doBegin_45
  · rw [if_pos hcnd] at hB
    refine gw_aload_n 0 rfl dX6_doBegin_12 ?_
    refine gw_iconst (v := (1 : Int32)) (by decide) dX6_doBegin_13 ?_
    obtain ⟨u0, hu15, hB⟩ := gB1_some hB
    obtain ⟨v14, s13, hv14, hB⟩ := gB2_some hB
    refine gw_callV (y := yX6_refuse) (lw_V q2753 q2755 qs49 q143 q2756) hdV_X6_refuse gcl9 hu15 (As := [vI (1 : Int32)]) (rest := []) (m_X6_refuse _ _ _ _ _ hv14) (Nat.le_of_ble_eq_true rfl) (Nat.le_of_ble_eq_true rfl) rfl (Nat.le_of_ble_eq_true rfl) dX6_doBegin_14 (gCont_i ?_)
    obtain ⟨rfl, rfl⟩ := Prod.mk.inj (Option.some.inj hB)
    exact gw_iret rfl rfl rfl dX6_doBegin_17
noncomputable def f_X6_doBegin (κ : gK) (F : Nat) (a0 : Option Nat) (s : gS) : Option (Int32 × gS) := f_X6_doBegin_0 κ F a0 s
theorem m_X6_doBegin {E : gE} {F : Nat} (a0 : Option Nat) (s : gS) (r : Int32) (s' : gS) (h : f_X6_doBegin (gk E) F a0 s = some (r, s')) : gCT E 2 yX6_doBegin (ws_ yX6_doBegin cX6_doBegin 1 (some FieldType.int)) [vR a0] s (.inl (some (vI r))) s' := by
  refine gCT_of2 (fun h => absurd h (by decide)) (plainFor_of_name (by decide)) (Nat.le_of_ble_eq_true rfl) ?_
  exact gw_sub [0] rfl (w_X6_doBegin_0 _ _ h)
def dkwX6_ends_4 : List UInt8 := [4, 96, 181, 0, 39, 27, 172]
abbrev dktX6_ends_4 : List UInt8 := dkwX6_ends_4 ++ []
def dkwX6_ends_3 : List UInt8 := [180, 0, 13, 3, 42, 180, 0, 16, 17, 1, 214, 42, 180, 0, 39, 104, 184, 0, 35, 42, 89, 180, 0, 39]
abbrev dktX6_ends_3 : List UInt8 := dkwX6_ends_3 ++ dktX6_ends_4
def dkwX6_ends_2 : List UInt8 := [17, 1, 214, 96, 46, 79, 132, 2, 1, 167, 255, 230, 42, 89, 180, 0, 39, 4, 100, 181, 0, 39, 42]
abbrev dktX6_ends_2 : List UInt8 := dkwX6_ends_2 ++ dktX6_ends_3
def dkwX6_ends_1 : List UInt8 := [160, 0, 44, 3, 61, 28, 17, 5, 130, 162, 0, 25, 42, 180, 0, 16, 28, 42, 180, 0, 16, 28]
abbrev dktX6_ends_1 : List UInt8 := dkwX6_ends_1 ++ dktX6_ends_2
def dkwX6_ends_0 : List UInt8 := [42, 42, 180, 0, 32, 181, 0, 28, 42, 180, 0, 32, 153, 0, 5, 3, 172, 42, 180, 0, 39, 7]
abbrev dktX6_ends_0 : List UInt8 := dkwX6_ends_0 ++ dktX6_ends_1
theorem dksX6_ends_0 : cX6_ends.data.toList.drop 0 = dktX6_ends_0 := by decide +kernel
theorem dksX6_ends_1 : cX6_ends.data.toList.drop 22 = dktX6_ends_1 := dk_seg dksX6_ends_0 22 rfl rfl
theorem dksX6_ends_2 : cX6_ends.data.toList.drop 44 = dktX6_ends_2 := dk_seg dksX6_ends_1 22 rfl rfl
theorem dksX6_ends_3 : cX6_ends.data.toList.drop 67 = dktX6_ends_3 := dk_seg dksX6_ends_2 23 rfl rfl
theorem dksX6_ends_4 : cX6_ends.data.toList.drop 91 = dktX6_ends_4 := dk_seg dksX6_ends_3 24 rfl rfl
theorem dX6_ends_0 : decode cX6_ends 0 = .ok (.aload_n 0, 1) := dk_42 (dk_at dksX6_ends_0 0 rfl rfl)
theorem dX6_ends_1 : decode cX6_ends 1 = .ok (.aload_n 0, 1) := dk_42 (dk_at dksX6_ends_0 1 rfl rfl)
theorem dX6_ends_2 : decode cX6_ends 2 = .ok (.getfield 32, 3) := dk_180 0 32 (dk_at dksX6_ends_0 2 rfl rfl)
theorem dX6_ends_5 : decode cX6_ends 5 = .ok (.putfield 28, 3) := dk_181 0 28 (dk_at dksX6_ends_0 5 rfl rfl)
theorem dX6_ends_8 : decode cX6_ends 8 = .ok (.aload_n 0, 1) := dk_42 (dk_at dksX6_ends_0 8 rfl rfl)
theorem dX6_ends_9 : decode cX6_ends 9 = .ok (.getfield 32, 3) := dk_180 0 32 (dk_at dksX6_ends_0 9 rfl rfl)
theorem dX6_ends_12 : decode cX6_ends 12 = .ok (.ifCond .eq 5, 3) := dk_153 0 5 (dk_at dksX6_ends_0 12 rfl rfl)
theorem dX6_ends_15 : decode cX6_ends 15 = .ok (.iconst 0, 1) := dk_3 (dk_at dksX6_ends_0 15 rfl rfl)
theorem dX6_ends_16 : decode cX6_ends 16 = .ok (.ireturn, 1) := dk_172 (dk_at dksX6_ends_0 16 rfl rfl)
theorem dX6_ends_17 : decode cX6_ends 17 = .ok (.aload_n 0, 1) := dk_42 (dk_at dksX6_ends_0 17 rfl rfl)
theorem dX6_ends_18 : decode cX6_ends 18 = .ok (.getfield 39, 3) := dk_180 0 39 (dk_at dksX6_ends_0 18 rfl rfl)
theorem dX6_ends_21 : decode cX6_ends 21 = .ok (.iconst 4, 1) := dk_7 (dk_at dksX6_ends_0 21 rfl rfl)
theorem dX6_ends_22 : decode cX6_ends 22 = .ok (.if_icmp .ne 44, 3) := dk_160 0 44 (dk_at dksX6_ends_1 0 rfl rfl)
theorem dX6_ends_25 : decode cX6_ends 25 = .ok (.iconst 0, 1) := dk_3 (dk_at dksX6_ends_1 3 rfl rfl)
theorem dX6_ends_26 : decode cX6_ends 26 = .ok (.istore_n 2, 1) := dk_61 (dk_at dksX6_ends_1 4 rfl rfl)
theorem dX6_ends_27 : decode cX6_ends 27 = .ok (.iload_n 2, 1) := dk_28 (dk_at dksX6_ends_1 5 rfl rfl)
theorem dX6_ends_28 : decode cX6_ends 28 = .ok (.sipush 1410, 3) := dk_17 5 130 (dk_at dksX6_ends_1 6 rfl rfl)
theorem dX6_ends_31 : decode cX6_ends 31 = .ok (.if_icmp .ge 25, 3) := dk_162 0 25 (dk_at dksX6_ends_1 9 rfl rfl)
theorem dX6_ends_34 : decode cX6_ends 34 = .ok (.aload_n 0, 1) := dk_42 (dk_at dksX6_ends_1 12 rfl rfl)
theorem dX6_ends_35 : decode cX6_ends 35 = .ok (.getfield 16, 3) := dk_180 0 16 (dk_at dksX6_ends_1 13 rfl rfl)
theorem dX6_ends_38 : decode cX6_ends 38 = .ok (.iload_n 2, 1) := dk_28 (dk_at dksX6_ends_1 16 rfl rfl)
theorem dX6_ends_39 : decode cX6_ends 39 = .ok (.aload_n 0, 1) := dk_42 (dk_at dksX6_ends_1 17 rfl rfl)
theorem dX6_ends_40 : decode cX6_ends 40 = .ok (.getfield 16, 3) := dk_180 0 16 (dk_at dksX6_ends_1 18 rfl rfl)
theorem dX6_ends_43 : decode cX6_ends 43 = .ok (.iload_n 2, 1) := dk_28 (dk_at dksX6_ends_1 21 rfl rfl)
theorem dX6_ends_44 : decode cX6_ends 44 = .ok (.sipush 470, 3) := dk_17 1 214 (dk_at dksX6_ends_2 0 rfl rfl)
theorem dX6_ends_47 : decode cX6_ends 47 = .ok (.iadd, 1) := dk_96 (dk_at dksX6_ends_2 3 rfl rfl)
theorem dX6_ends_48 : decode cX6_ends 48 = .ok (.iaload, 1) := dk_46 (dk_at dksX6_ends_2 4 rfl rfl)
theorem dX6_ends_49 : decode cX6_ends 49 = .ok (.iastore, 1) := dk_79 (dk_at dksX6_ends_2 5 rfl rfl)
theorem dX6_ends_50 : decode cX6_ends 50 = .ok (.iinc 2 1, 3) := dk_132 2 1 (dk_at dksX6_ends_2 6 rfl rfl)
theorem dX6_ends_53 : decode cX6_ends 53 = .ok (.goto (-26), 3) := dk_167 255 230 (dk_at dksX6_ends_2 9 rfl rfl)
theorem dX6_ends_56 : decode cX6_ends 56 = .ok (.aload_n 0, 1) := dk_42 (dk_at dksX6_ends_2 12 rfl rfl)
theorem dX6_ends_57 : decode cX6_ends 57 = .ok (.dup, 1) := dk_89 (dk_at dksX6_ends_2 13 rfl rfl)
theorem dX6_ends_58 : decode cX6_ends 58 = .ok (.getfield 39, 3) := dk_180 0 39 (dk_at dksX6_ends_2 14 rfl rfl)
theorem dX6_ends_61 : decode cX6_ends 61 = .ok (.iconst 1, 1) := dk_4 (dk_at dksX6_ends_2 17 rfl rfl)
theorem dX6_ends_62 : decode cX6_ends 62 = .ok (.isub, 1) := dk_100 (dk_at dksX6_ends_2 18 rfl rfl)
theorem dX6_ends_63 : decode cX6_ends 63 = .ok (.putfield 39, 3) := dk_181 0 39 (dk_at dksX6_ends_2 19 rfl rfl)
theorem dX6_ends_66 : decode cX6_ends 66 = .ok (.aload_n 0, 1) := dk_42 (dk_at dksX6_ends_2 22 rfl rfl)
theorem dX6_ends_67 : decode cX6_ends 67 = .ok (.getfield 13, 3) := dk_180 0 13 (dk_at dksX6_ends_3 0 rfl rfl)
theorem dX6_ends_70 : decode cX6_ends 70 = .ok (.iconst 0, 1) := dk_3 (dk_at dksX6_ends_3 3 rfl rfl)
theorem dX6_ends_71 : decode cX6_ends 71 = .ok (.aload_n 0, 1) := dk_42 (dk_at dksX6_ends_3 4 rfl rfl)
theorem dX6_ends_72 : decode cX6_ends 72 = .ok (.getfield 16, 3) := dk_180 0 16 (dk_at dksX6_ends_3 5 rfl rfl)
theorem dX6_ends_75 : decode cX6_ends 75 = .ok (.sipush 470, 3) := dk_17 1 214 (dk_at dksX6_ends_3 8 rfl rfl)
theorem dX6_ends_78 : decode cX6_ends 78 = .ok (.aload_n 0, 1) := dk_42 (dk_at dksX6_ends_3 11 rfl rfl)
theorem dX6_ends_79 : decode cX6_ends 79 = .ok (.getfield 39, 3) := dk_180 0 39 (dk_at dksX6_ends_3 12 rfl rfl)
theorem dX6_ends_82 : decode cX6_ends 82 = .ok (.imul, 1) := dk_104 (dk_at dksX6_ends_3 15 rfl rfl)
theorem dX6_ends_83 : decode cX6_ends 83 = .ok (.invokestatic 35, 3) := dk_184 0 35 (dk_at dksX6_ends_3 16 rfl rfl)
theorem dX6_ends_86 : decode cX6_ends 86 = .ok (.aload_n 0, 1) := dk_42 (dk_at dksX6_ends_3 19 rfl rfl)
theorem dX6_ends_87 : decode cX6_ends 87 = .ok (.dup, 1) := dk_89 (dk_at dksX6_ends_3 20 rfl rfl)
theorem dX6_ends_88 : decode cX6_ends 88 = .ok (.getfield 39, 3) := dk_180 0 39 (dk_at dksX6_ends_3 21 rfl rfl)
theorem dX6_ends_91 : decode cX6_ends 91 = .ok (.iconst 1, 1) := dk_4 (dk_at dksX6_ends_4 0 rfl rfl)
theorem dX6_ends_92 : decode cX6_ends 92 = .ok (.iadd, 1) := dk_96 (dk_at dksX6_ends_4 1 rfl rfl)
theorem dX6_ends_93 : decode cX6_ends 93 = .ok (.putfield 39, 3) := dk_181 0 39 (dk_at dksX6_ends_4 2 rfl rfl)
theorem dX6_ends_96 : decode cX6_ends 96 = .ok (.iload_n 1, 1) := dk_27 (dk_at dksX6_ends_4 5 rfl rfl)
theorem dX6_ends_97 : decode cX6_ends 97 = .ok (.ireturn, 1) := dk_172 (dk_at dksX6_ends_4 6 rfl rfl)
/-! PageGardenModel.ends(I)I -/
abbrev M_X6_ends (z0 n0 : Nat) (s' : gS) : gM := (RX6, cX6_ends, 3, (some FieldType.int), "ends", [], 2, z0, n0, s'.2.1, s'.2.2)
abbrev W_X6_ends (E : gE) (z0 n0 : Nat) (r : Int32) (s' : gS) (pc : Nat) (L : List (Nat × gV)) (st : List gV) (s : gS) : Prop := gW E (M_X6_ends z0 n0 s') (gQm E (M_X6_ends z0 n0 s') (.inl (some (vI r))) s') pc L st s
noncomputable def f_X6_ends_66 (κ : gK) (F : Nat)  (l0 : Option Nat) (l1 : Int32) (s : gS) : Option (Int32 × gS) :=
  gB1 (gfR s l0 9 1) fun v1 =>
  gB1 (gfR s l0 9 2) fun v2 =>
  gB1 (gfI s l0 9 3) fun v3 =>
  gB2 (f_X6_bring κ F v1 (0 : Int32) v2 ((470 : Int32) * v3) s) fun v5 s4 =>
  gB1 (gfI s4 l0 9 3) fun v6 =>
  gB1 (gpf κ s4 l0 9 3 (.int (v6 + (1 : Int32)))) fun s7 =>
  some (l1, s7)
set_option maxHeartbeats 4000000 in
theorem w_X6_ends_66 {E : gE} {F z0 n0 : Nat} {r : Int32} {s' : gS}   : ∀ (l0 : Option Nat) (l1 : Int32)  (s : gS), f_X6_ends_66 (gk E) F  l0 l1 s = some (r, s') → W_X6_ends E z0 n0 r s' 66 [(0, vR l0), (1, vI l1)] [] s := by
  intro l0 l1 s hB
  unfold f_X6_ends_66 at hB
  refine gw_aload_n 0 rfl dX6_ends_66 ?_
  obtain ⟨v1, hv1, hB⟩ := gB1_some hB
  refine gw_getf (C := RX6) (T := TX6) (N := 13) (k := 1) gcl9 (by decide) in_X6 q2695 (gfR_spec hv1) dX6_ends_67 ?_
  refine gw_iconst (v := (0 : Int32)) (by decide) dX6_ends_70 ?_
  refine gw_aload_n 0 rfl dX6_ends_71 ?_
  obtain ⟨v2, hv2, hB⟩ := gB1_some hB
  refine gw_getf (C := RX6) (T := TX6) (N := 13) (k := 2) gcl9 (by decide) in_X6 q2696 (gfR_spec hv2) dX6_ends_72 ?_
  refine gw_sipush (v := (470 : Int32)) (by decide) dX6_ends_75 ?_
  refine gw_aload_n 0 rfl dX6_ends_78 ?_
  obtain ⟨v3, hv3, hB⟩ := gB1_some hB
  refine gw_getf (C := RX6) (T := TX6) (N := 13) (k := 3) gcl9 (by decide) in_X6 q2697 (gfI_spec hv3) dX6_ends_79 ?_
  refine gw_imul dX6_ends_82 ?_
  obtain ⟨v5, s4, hv5, hB⟩ := gB2_some hB
  refine gw_callS (y := yX6_bring) (lw_S q2746 q2747 q143 q2748) hdS_X6_bring (As := [vR v1, vI (0 : Int32), vR v2, vI ((470 : Int32) * v3)]) (rest := []) (m_X6_bring _ _ _ _ _ _ _ hv5) (Nat.le_of_ble_eq_true rfl) (Nat.le_of_ble_eq_true rfl) rfl (Nat.le_of_ble_eq_true rfl) dX6_ends_83 (gCont_v ?_)
  refine gw_aload_n 0 rfl dX6_ends_86 ?_
  refine gw_dup rfl dX6_ends_87 ?_
  obtain ⟨v6, hv6, hB⟩ := gB1_some hB
  refine gw_getf (C := RX6) (T := TX6) (N := 13) (k := 3) gcl9 (by decide) in_X6 q2697 (gfI_spec hv6) dX6_ends_88 ?_
  refine gw_iconst (v := (1 : Int32)) (by decide) dX6_ends_91 ?_
  refine gw_iadd dX6_ends_92 ?_
  obtain ⟨s7, hs7, hB⟩ := gB1_some hB
  refine gw_putf (C := RX6) (T := TX6) (N := 13) (k := 3) tyX6 tyX6_ok nmX6 gcl9 (by decide) in_X6 q2697 rfl (tyX6_ok 3 (by decide)) (gNF_i _) hs7 dX6_ends_93 ?_
  refine gw_iload_n 1 rfl dX6_ends_96 ?_
  obtain ⟨rfl, rfl⟩ := Prod.mk.inj (Option.some.inj hB)
  exact gw_iret rfl rfl rfl dX6_ends_97
noncomputable def f_X6_ends_27b (κ : gK) (F : Nat) (k27 : Option Nat → Int32 → Int32 → gS → Option (Int32 × gS)) (l0 : Option Nat) (l1 : Int32) (l2 : Int32) (s : gS) : Option (Int32 × gS) :=
  if (1410 : Int32) ≤ l2 then
    gB1 (gfI s l0 9 3) fun v1 =>
    gB1 (gpf κ s l0 9 3 (.int (v1 - (1 : Int32)))) fun s2 =>
    f_X6_ends_66 κ F  l0 l1 s2
  else
    gB1 (gfR s l0 9 2) fun v3 =>
    gB1 (gfR s l0 9 2) fun v4 =>
    gB1 (gaI s v4 0 (l2 + (470 : Int32))) fun v5 =>
    gB1 (gsI κ s v3 l2 v5) fun s6 =>
    k27 l0 l1 (l2 + (1 : Int32)) s6
noncomputable def f_X6_ends_27 (κ : gK) (F : Nat)  : Nat → Option Nat → Int32 → Int32 → gS → Option (Int32 × gS)
  | 0 => fun _ _ _ _ => none
  | n + 1 => f_X6_ends_27b κ F  (f_X6_ends_27 κ F  n)
set_option maxHeartbeats 4000000 in
theorem w_X6_ends_27b {E : gE} {F z0 n0 : Nat} {r : Int32} {s' : gS} {k27 : Option Nat → Int32 → Int32 → gS → Option (Int32 × gS)} (hk27 : ∀ (l0 : Option Nat) (l1 : Int32) (l2 : Int32) (s : gS), k27 l0 l1 l2 s = some (r, s') → W_X6_ends E z0 n0 r s' 27 [(0, vR l0), (1, vI l1), (2, vI l2)] [] s) : ∀ (l0 : Option Nat) (l1 : Int32) (l2 : Int32)  (s : gS), f_X6_ends_27b (gk E) F k27 l0 l1 l2 s = some (r, s') → W_X6_ends E z0 n0 r s' 27 [(0, vR l0), (1, vI l1), (2, vI l2)] [] s := by
  intro l0 l1 l2 s hB
  unfold f_X6_ends_27b at hB
  refine gw_iload_n 2 rfl dX6_ends_27 ?_
  refine gw_sipush (v := (1410 : Int32)) (by decide) dX6_ends_28 ?_
  refine gw_icmp_ge (tgt := 56) dX6_ends_31 (by decide) (fun hcnd => ?_) (fun hcnd => ?_)
  · rw [if_pos hcnd] at hB
    refine gw_aload_n 0 rfl dX6_ends_56 ?_
    refine gw_dup rfl dX6_ends_57 ?_
    obtain ⟨v1, hv1, hB⟩ := gB1_some hB
    refine gw_getf (C := RX6) (T := TX6) (N := 13) (k := 3) gcl9 (by decide) in_X6 q2697 (gfI_spec hv1) dX6_ends_58 ?_
    refine gw_iconst (v := (1 : Int32)) (by decide) dX6_ends_61 ?_
    refine gw_isub dX6_ends_62 ?_
    obtain ⟨s2, hs2, hB⟩ := gB1_some hB
    refine gw_putf (C := RX6) (T := TX6) (N := 13) (k := 3) tyX6 tyX6_ok nmX6 gcl9 (by decide) in_X6 q2697 rfl (tyX6_ok 3 (by decide)) (gNF_i _) hs2 dX6_ends_63 ?_
    exact gw_sub [0, 1] rfl (w_X6_ends_66  _ _ _ hB)
  · rw [if_neg hcnd] at hB
    refine gw_aload_n 0 rfl dX6_ends_34 ?_
    obtain ⟨v3, hv3, hB⟩ := gB1_some hB
    refine gw_getf (C := RX6) (T := TX6) (N := 13) (k := 2) gcl9 (by decide) in_X6 q2696 (gfR_spec hv3) dX6_ends_35 ?_
    refine gw_iload_n 2 rfl dX6_ends_38 ?_
    refine gw_aload_n 0 rfl dX6_ends_39 ?_
    obtain ⟨v4, hv4, hB⟩ := gB1_some hB
    refine gw_getf (C := RX6) (T := TX6) (N := 13) (k := 2) gcl9 (by decide) in_X6 q2696 (gfR_spec hv4) dX6_ends_40 ?_
    refine gw_iload_n 2 rfl dX6_ends_43 ?_
    refine gw_sipush (v := (470 : Int32)) (by decide) dX6_ends_44 ?_
    refine gw_iadd dX6_ends_47 ?_
    obtain ⟨v5, hv5, hB⟩ := gB1_some hB
    refine gw_iaload hv5 dX6_ends_48 ?_
    obtain ⟨s6, hs6, hB⟩ := gB1_some hB
    refine gw_iastore hs6 dX6_ends_49 ?_
    refine gw_iinc (w := (1 : Int32)) (L' := [(2, vI (l2 + (1 : Int32))), (0, vR l0), (1, vI l1)]) 2 rfl (by decide) (Nat.le_of_ble_eq_true rfl) rfl dX6_ends_50 ?_
    refine gw_goto (tgt := 27) dX6_ends_53 (by decide) ?_
    exact gw_sub [1, 2, 0] rfl (hk27 _ _ _ _ hB)
theorem w_X6_ends_27 {E : gE} {F z0 n0 : Nat} {r : Int32} {s' : gS}   : ∀ (n : Nat) (l0 : Option Nat) (l1 : Int32) (l2 : Int32)  (s : gS), f_X6_ends_27 (gk E) F  n l0 l1 l2 s = some (r, s') → W_X6_ends E z0 n0 r s' 27 [(0, vR l0), (1, vI l1), (2, vI l2)] [] s := by
  intro n
  induction n with
  | zero => intro l0 l1 l2 s hB; cases hB
  | succ n ih => intro l0 l1 l2 s hB; exact w_X6_ends_27b ih l0 l1 l2 s hB
noncomputable def f_X6_ends_0 (κ : gK) (F : Nat)  (l0 : Option Nat) (l1 : Int32) (s : gS) : Option (Int32 × gS) :=
  gB1 (gfI s l0 9 7) fun v1 =>
  gB1 (gpf κ s l0 9 6 (.int v1)) fun s2 =>
  gB1 (gfI s2 l0 9 7) fun v3 =>
  if v3 = 0 then
    gB1 (gfI s2 l0 9 3) fun v4 =>
    if v4 = (4 : Int32) then
      f_X6_ends_27 κ F  F l0 l1 (0 : Int32) s2
    else
      f_X6_ends_66 κ F  l0 l1 s2
  else
    some ((0 : Int32), s2)
set_option maxHeartbeats 4000000 in
theorem w_X6_ends_0 {E : gE} {F z0 n0 : Nat} {r : Int32} {s' : gS}   : ∀ (l0 : Option Nat) (l1 : Int32)  (s : gS), f_X6_ends_0 (gk E) F  l0 l1 s = some (r, s') → W_X6_ends E z0 n0 r s' 0 [(0, vR l0), (1, vI l1)] [] s := by
  intro l0 l1 s hB
  unfold f_X6_ends_0 at hB
  refine gw_aload_n 0 rfl dX6_ends_0 ?_
  refine gw_aload_n 0 rfl dX6_ends_1 ?_
  obtain ⟨v1, hv1, hB⟩ := gB1_some hB
  refine gw_getf (C := RX6) (T := TX6) (N := 13) (k := 7) gcl9 (by decide) in_X6 q2701 (gfI_spec hv1) dX6_ends_2 ?_
  obtain ⟨s2, hs2, hB⟩ := gB1_some hB
  refine gw_putf (C := RX6) (T := TX6) (N := 13) (k := 6) tyX6 tyX6_ok nmX6 gcl9 (by decide) in_X6 q2700 rfl (tyX6_ok 6 (by decide)) (gNF_i _) hs2 dX6_ends_5 ?_
  refine gw_aload_n 0 rfl dX6_ends_8 ?_
  obtain ⟨v3, hv3, hB⟩ := gB1_some hB
  refine gw_getf (C := RX6) (T := TX6) (N := 13) (k := 7) gcl9 (by decide) in_X6 q2701 (gfI_spec hv3) dX6_ends_9 ?_
  refine gw_if_eq (tgt := 17) dX6_ends_12 (by decide) (fun hcnd => ?_) (fun hcnd => ?_)
  · rw [if_pos hcnd] at hB
    refine gw_aload_n 0 rfl dX6_ends_17 ?_
    obtain ⟨v4, hv4, hB⟩ := gB1_some hB
    refine gw_getf (C := RX6) (T := TX6) (N := 13) (k := 3) gcl9 (by decide) in_X6 q2697 (gfI_spec hv4) dX6_ends_18 ?_
    refine gw_iconst (v := (4 : Int32)) (by decide) dX6_ends_21 ?_
    refine gw_icmp_ne (tgt := 66) dX6_ends_22 (by decide) (fun hcnd => ?_) (fun hcnd => ?_)
    · rw [if_neg hcnd] at hB
      exact gw_sub [0, 1] rfl (w_X6_ends_66  _ _ _ hB)
    · rw [if_pos hcnd] at hB
      refine gw_iconst (v := (0 : Int32)) (by decide) dX6_ends_25 ?_
      refine gw_istore_n (L' := [(2, vI (0 : Int32)), (0, vR l0), (1, vI l1)]) (Nat.le_of_ble_eq_true rfl) rfl dX6_ends_26 ?_
      exact gw_sub [1, 2, 0] rfl (w_X6_ends_27  F _ _ _ _ hB)
  · rw [if_neg hcnd] at hB
    refine gw_iconst (v := (0 : Int32)) (by decide) dX6_ends_15 ?_
    obtain ⟨rfl, rfl⟩ := Prod.mk.inj (Option.some.inj hB)
    exact gw_iret rfl rfl rfl dX6_ends_16
noncomputable def f_X6_ends (κ : gK) (F : Nat) (a0 : Option Nat) (a1 : Int32) (s : gS) : Option (Int32 × gS) := f_X6_ends_0 κ F a0 a1 s
theorem m_X6_ends {E : gE} {F : Nat} (a0 : Option Nat) (a1 : Int32) (s : gS) (r : Int32) (s' : gS) (h : f_X6_ends (gk E) F a0 a1 s = some (r, s')) : gCT E 2 yX6_ends (ws_ yX6_ends cX6_ends 3 (some FieldType.int)) [vR a0, vI a1] s (.inl (some (vI r))) s' := by
  refine gCT_of2 (fun h => absurd h (by decide)) (plainFor_of_name (by decide)) (Nat.le_of_ble_eq_true rfl) ?_
  exact gw_sub [0, 1] rfl (w_X6_ends_0 _ _ _ h)
def dkwX6_begin_0 : List UInt8 := [42, 182, 0, 142, 42, 42, 182, 0, 145, 182, 0, 148, 172]
abbrev dktX6_begin_0 : List UInt8 := dkwX6_begin_0 ++ []
theorem dksX6_begin_0 : cX6_begin.data.toList.drop 0 = dktX6_begin_0 := by decide +kernel
theorem dX6_begin_0 : decode cX6_begin 0 = .ok (.aload_n 0, 1) := dk_42 (dk_at dksX6_begin_0 0 rfl rfl)
theorem dX6_begin_1 : decode cX6_begin 1 = .ok (.invokevirtual 142, 3) := dk_182 0 142 (dk_at dksX6_begin_0 1 rfl rfl)
theorem dX6_begin_4 : decode cX6_begin 4 = .ok (.aload_n 0, 1) := dk_42 (dk_at dksX6_begin_0 4 rfl rfl)
theorem dX6_begin_5 : decode cX6_begin 5 = .ok (.aload_n 0, 1) := dk_42 (dk_at dksX6_begin_0 5 rfl rfl)
theorem dX6_begin_6 : decode cX6_begin 6 = .ok (.invokevirtual 145, 3) := dk_182 0 145 (dk_at dksX6_begin_0 6 rfl rfl)
theorem dX6_begin_9 : decode cX6_begin 9 = .ok (.invokevirtual 148, 3) := dk_182 0 148 (dk_at dksX6_begin_0 9 rfl rfl)
theorem dX6_begin_12 : decode cX6_begin 12 = .ok (.ireturn, 1) := dk_172 (dk_at dksX6_begin_0 12 rfl rfl)
/-! PageGardenModel.begin()I -/
abbrev M_X6_begin (z0 n0 : Nat) (s' : gS) : gM := (RX6, cX6_begin, 1, (some FieldType.int), "begin", [], 3, z0, n0, s'.2.1, s'.2.2)
abbrev W_X6_begin (E : gE) (z0 n0 : Nat) (r : Int32) (s' : gS) (pc : Nat) (L : List (Nat × gV)) (st : List gV) (s : gS) : Prop := gW E (M_X6_begin z0 n0 s') (gQm E (M_X6_begin z0 n0 s') (.inl (some (vI r))) s') pc L st s
noncomputable def f_X6_begin_0 (κ : gK) (F : Nat)  (l0 : Option Nat) (s : gS) : Option (Int32 × gS) :=
  gB1 (gck s l0 9) fun _ =>
  gB2 (f_X6_hold κ F l0  s) fun v2 s1 =>
  gB1 (gck s1 l0 9) fun _ =>
  gB2 (f_X6_doBegin κ F l0  s1) fun v5 s4 =>
  gB1 (gck s4 l0 9) fun _ =>
  gB2 (f_X6_ends κ F l0 v5 s4) fun v8 s7 =>
  some (v8, s7)
set_option maxHeartbeats 4000000 in
theorem w_X6_begin_0 {E : gE} {F z0 n0 : Nat} {r : Int32} {s' : gS}   : ∀ (l0 : Option Nat)  (s : gS), f_X6_begin_0 (gk E) F  l0 s = some (r, s') → W_X6_begin E z0 n0 r s' 0 [(0, vR l0)] [] s := by
  intro l0 s hB
  unfold f_X6_begin_0 at hB
  refine gw_aload_n 0 rfl dX6_begin_0 ?_
  obtain ⟨u0, hu3, hB⟩ := gB1_some hB
  obtain ⟨v2, s1, hv2, hB⟩ := gB2_some hB
  refine gw_callV (y := yX6_hold) (lw_V q2742 q2744 qs47 q143 q2745) hdV_X6_hold gcl9 hu3 (As := []) (rest := []) (m_X6_hold _ _ _ _ hv2) (Nat.le_of_ble_eq_true rfl) (Nat.le_of_ble_eq_true rfl) rfl (Nat.le_of_ble_eq_true rfl) dX6_begin_1 (gCont_v ?_)
  refine gw_aload_n 0 rfl dX6_begin_4 ?_
  refine gw_aload_n 0 rfl dX6_begin_5 ?_
  obtain ⟨u0, hu6, hB⟩ := gB1_some hB
  obtain ⟨v5, s4, hv5, hB⟩ := gB2_some hB
  refine gw_callV (y := yX6_doBegin) (lw_V q2749 q2751 qs48 q143 q2752) hdV_X6_doBegin gcl9 hu6 (As := []) (rest := [vR l0]) (m_X6_doBegin _ _ _ _ hv5) (Nat.le_of_ble_eq_true rfl) (Nat.le_of_ble_eq_true rfl) rfl (Nat.le_of_ble_eq_true rfl) dX6_begin_6 (gCont_i ?_)
  obtain ⟨u0, hu9, hB⟩ := gB1_some hB
  obtain ⟨v8, s7, hv8, hB⟩ := gB2_some hB
  refine gw_callV (y := yX6_ends) (lw_V q2765 q2767 qs52 q143 q2768) hdV_X6_ends gcl9 hu9 (As := [vI v5]) (rest := []) (m_X6_ends _ _ _ _ _ hv8) (Nat.le_of_ble_eq_true rfl) (Nat.le_of_ble_eq_true rfl) rfl (Nat.le_of_ble_eq_true rfl) dX6_begin_9 (gCont_i ?_)
  obtain ⟨rfl, rfl⟩ := Prod.mk.inj (Option.some.inj hB)
  exact gw_iret rfl rfl rfl dX6_begin_12
noncomputable def f_X6_begin (κ : gK) (F : Nat) (a0 : Option Nat) (s : gS) : Option (Int32 × gS) := f_X6_begin_0 κ F a0 s
theorem m_X6_begin {E : gE} {F : Nat} (a0 : Option Nat) (s : gS) (r : Int32) (s' : gS) (h : f_X6_begin (gk E) F a0 s = some (r, s')) : gCT E 3 yX6_begin (ws_ yX6_begin cX6_begin 1 (some FieldType.int)) [vR a0] s (.inl (some (vI r))) s' := by
  refine gCT_of2 (fun h => absurd h (by decide)) (plainFor_of_name (by decide)) (Nat.le_of_ble_eq_true rfl) ?_
  exact gw_sub [0] rfl (w_X6_begin_0 _ _ h)
def dkwX6_in_0 : List UInt8 := [26, 27, 161, 0, 12, 26, 28, 163, 0, 7, 4, 167, 0, 4, 3, 172]
abbrev dktX6_in_0 : List UInt8 := dkwX6_in_0 ++ []
theorem dksX6_in_0 : cX6_in.data.toList.drop 0 = dktX6_in_0 := by decide +kernel
theorem dX6_in_0 : decode cX6_in 0 = .ok (.iload_n 0, 1) := dk_26 (dk_at dksX6_in_0 0 rfl rfl)
theorem dX6_in_1 : decode cX6_in 1 = .ok (.iload_n 1, 1) := dk_27 (dk_at dksX6_in_0 1 rfl rfl)
theorem dX6_in_2 : decode cX6_in 2 = .ok (.if_icmp .lt 12, 3) := dk_161 0 12 (dk_at dksX6_in_0 2 rfl rfl)
theorem dX6_in_5 : decode cX6_in 5 = .ok (.iload_n 0, 1) := dk_26 (dk_at dksX6_in_0 5 rfl rfl)
theorem dX6_in_6 : decode cX6_in 6 = .ok (.iload_n 2, 1) := dk_28 (dk_at dksX6_in_0 6 rfl rfl)
theorem dX6_in_7 : decode cX6_in 7 = .ok (.if_icmp .gt 7, 3) := dk_163 0 7 (dk_at dksX6_in_0 7 rfl rfl)
theorem dX6_in_10 : decode cX6_in 10 = .ok (.iconst 1, 1) := dk_4 (dk_at dksX6_in_0 10 rfl rfl)
theorem dX6_in_11 : decode cX6_in 11 = .ok (.goto 4, 3) := dk_167 0 4 (dk_at dksX6_in_0 11 rfl rfl)
theorem dX6_in_14 : decode cX6_in 14 = .ok (.iconst 0, 1) := dk_3 (dk_at dksX6_in_0 14 rfl rfl)
theorem dX6_in_15 : decode cX6_in 15 = .ok (.ireturn, 1) := dk_172 (dk_at dksX6_in_0 15 rfl rfl)
/-! PageGardenModel.in(III)Z -/
abbrev M_X6_in (z0 n0 : Nat) (s' : gS) : gM := (RX6, cX6_in, 3, (some FieldType.boolean), "in", [], 1, z0, n0, s'.2.1, s'.2.2)
abbrev W_X6_in (E : gE) (z0 n0 : Nat) (r : Int32) (s' : gS) (pc : Nat) (L : List (Nat × gV)) (st : List gV) (s : gS) : Prop := gW E (M_X6_in z0 n0 s') (gQm E (M_X6_in z0 n0 s') (.inl (some (vI r))) s') pc L st s
noncomputable def f_X6_in_15 (κ : gK) (F : Nat)  (t0 : Int32) (s : gS) : Option (Int32 × gS) :=
  gB1 (gok .boolean t0) fun _ => some (t0, s)
set_option maxHeartbeats 4000000 in
theorem w_X6_in_15 {E : gE} {F z0 n0 : Nat} {r : Int32} {s' : gS}   : ∀  (t0 : Int32) (s : gS), f_X6_in_15 (gk E) F  t0 s = some (r, s') → W_X6_in E z0 n0 r s' 15 [] [vI t0] s := by
  intro t0 s hB
  unfold f_X6_in_15 at hB
  obtain ⟨u, hu, hB⟩ := gB1_some hB
  obtain ⟨rfl, rfl⟩ := Prod.mk.inj (Option.some.inj hB)
  exact gw_zret rfl hu rfl rfl dX6_in_15
noncomputable def f_X6_in_14 (κ : gK) (F : Nat)   (s : gS) : Option (Int32 × gS) :=
  f_X6_in_15 κ F  (0 : Int32) s
set_option maxHeartbeats 4000000 in
theorem w_X6_in_14 {E : gE} {F z0 n0 : Nat} {r : Int32} {s' : gS}   : ∀   (s : gS), f_X6_in_14 (gk E) F   s = some (r, s') → W_X6_in E z0 n0 r s' 14 [] [] s := by
  intro  s hB
  unfold f_X6_in_14 at hB
  refine gw_iconst (v := (0 : Int32)) (by decide) dX6_in_14 ?_
  exact gw_sub [] rfl (w_X6_in_15  _ _ hB)
noncomputable def f_X6_in_0 (κ : gK) (F : Nat)  (l0 : Int32) (l1 : Int32) (l2 : Int32) (s : gS) : Option (Int32 × gS) :=
  if l0 < l1 then
    f_X6_in_14 κ F  s
  else
    if l2 < l0 then
      f_X6_in_14 κ F  s
    else
      f_X6_in_15 κ F  (1 : Int32) s
set_option maxHeartbeats 4000000 in
theorem w_X6_in_0 {E : gE} {F z0 n0 : Nat} {r : Int32} {s' : gS}   : ∀ (l0 : Int32) (l1 : Int32) (l2 : Int32)  (s : gS), f_X6_in_0 (gk E) F  l0 l1 l2 s = some (r, s') → W_X6_in E z0 n0 r s' 0 [(0, vI l0), (1, vI l1), (2, vI l2)] [] s := by
  intro l0 l1 l2 s hB
  unfold f_X6_in_0 at hB
  refine gw_iload_n 0 rfl dX6_in_0 ?_
  refine gw_iload_n 1 rfl dX6_in_1 ?_
  refine gw_icmp_lt (tgt := 14) dX6_in_2 (by decide) (fun hcnd => ?_) (fun hcnd => ?_)
  · rw [if_pos hcnd] at hB
    exact gw_sub [] rfl (w_X6_in_14   _ hB)
  · rw [if_neg hcnd] at hB
    refine gw_iload_n 0 rfl dX6_in_5 ?_
    refine gw_iload_n 2 rfl dX6_in_6 ?_
    refine gw_icmp_gt (tgt := 14) dX6_in_7 (by decide) (fun hcnd => ?_) (fun hcnd => ?_)
    · rw [if_pos hcnd] at hB
      exact gw_sub [] rfl (w_X6_in_14   _ hB)
    · rw [if_neg hcnd] at hB
      refine gw_iconst (v := (1 : Int32)) (by decide) dX6_in_10 ?_
      refine gw_goto (tgt := 15) dX6_in_11 (by decide) ?_
      exact gw_sub [] rfl (w_X6_in_15  _ _ hB)
noncomputable def f_X6_in (κ : gK) (F : Nat) (a1 : Int32) (a2 : Int32) (a3 : Int32) (s : gS) : Option (Int32 × gS) := f_X6_in_0 κ F a1 a2 a3 s
theorem m_X6_in {E : gE} {F : Nat} (a1 : Int32) (a2 : Int32) (a3 : Int32) (s : gS) (r : Int32) (s' : gS) (h : f_X6_in (gk E) F a1 a2 a3 s = some (r, s')) : gCT E 1 yX6_in (ws_ yX6_in cX6_in 3 (some FieldType.boolean)) [vI a1, vI a2, vI a3] s (.inl (some (vI r))) s' := by
  refine gCT_of2 (fun h => absurd h (by decide)) (plainFor_of_name (by decide)) (Nat.le_of_ble_eq_true rfl) ?_
  exact gw_sub [0, 1, 2] rfl (w_X6_in_0 _ _ _ _ h)
def dkwX6_now_0 : List UInt8 := [42, 42, 182, 0, 42, 4, 182, 0, 46, 172]
abbrev dktX6_now_0 : List UInt8 := dkwX6_now_0 ++ []
theorem dksX6_now_0 : cX6_now.data.toList.drop 0 = dktX6_now_0 := by decide +kernel
theorem dX6_now_0 : decode cX6_now 0 = .ok (.aload_n 0, 1) := dk_42 (dk_at dksX6_now_0 0 rfl rfl)
theorem dX6_now_1 : decode cX6_now 1 = .ok (.aload_n 0, 1) := dk_42 (dk_at dksX6_now_0 1 rfl rfl)
theorem dX6_now_2 : decode cX6_now 2 = .ok (.invokevirtual 42, 3) := dk_182 0 42 (dk_at dksX6_now_0 2 rfl rfl)
theorem dX6_now_5 : decode cX6_now 5 = .ok (.iconst 1, 1) := dk_4 (dk_at dksX6_now_0 5 rfl rfl)
theorem dX6_now_6 : decode cX6_now 6 = .ok (.invokevirtual 46, 3) := dk_182 0 46 (dk_at dksX6_now_0 6 rfl rfl)
theorem dX6_now_9 : decode cX6_now 9 = .ok (.ireturn, 1) := dk_172 (dk_at dksX6_now_0 9 rfl rfl)
/-! PageGardenModel.now()I -/
abbrev M_X6_now (z0 n0 : Nat) (s' : gS) : gM := (RX6, cX6_now, 1, (some FieldType.int), "now", [], 2, z0, n0, s'.2.1, s'.2.2)
abbrev W_X6_now (E : gE) (z0 n0 : Nat) (r : Int32) (s' : gS) (pc : Nat) (L : List (Nat × gV)) (st : List gV) (s : gS) : Prop := gW E (M_X6_now z0 n0 s') (gQm E (M_X6_now z0 n0 s') (.inl (some (vI r))) s') pc L st s
noncomputable def f_X6_now_0 (κ : gK) (F : Nat)  (l0 : Option Nat) (s : gS) : Option (Int32 × gS) :=
  gB1 (gck s l0 9) fun _ =>
  gB2 (f_X6_current κ F l0  s) fun v2 s1 =>
  gB1 (gck s1 l0 9) fun _ =>
  gB2 (f_X6_ofRoot κ F l0 v2 (1 : Int32) s1) fun v5 s4 =>
  some (v5, s4)
set_option maxHeartbeats 4000000 in
theorem w_X6_now_0 {E : gE} {F z0 n0 : Nat} {r : Int32} {s' : gS}   : ∀ (l0 : Option Nat)  (s : gS), f_X6_now_0 (gk E) F  l0 s = some (r, s') → W_X6_now E z0 n0 r s' 0 [(0, vR l0)] [] s := by
  intro l0 s hB
  unfold f_X6_now_0 at hB
  refine gw_aload_n 0 rfl dX6_now_0 ?_
  refine gw_aload_n 0 rfl dX6_now_1 ?_
  obtain ⟨u0, hu3, hB⟩ := gB1_some hB
  obtain ⟨v2, s1, hv2, hB⟩ := gB2_some hB
  refine gw_callV (y := yX6_current) (lw_V q2757 q2759 qs50 q143 q2760) hdV_X6_current gcl9 hu3 (As := []) (rest := [vR l0]) (m_X6_current _ _ _ _ hv2) (Nat.le_of_ble_eq_true rfl) (Nat.le_of_ble_eq_true rfl) rfl (Nat.le_of_ble_eq_true rfl) dX6_now_2 (gCont_i ?_)
  refine gw_iconst (v := (1 : Int32)) (by decide) dX6_now_5 ?_
  obtain ⟨u0, hu6, hB⟩ := gB1_some hB
  obtain ⟨v5, s4, hv5, hB⟩ := gB2_some hB
  refine gw_callV (y := yX6_ofRoot) (lw_V q2761 q2763 qs51 q143 q2764) hdV_X6_ofRoot gcl9 hu6 (As := [vI v2, vI (1 : Int32)]) (rest := []) (m_X6_ofRoot _ _ _ _ _ _ hv5) (Nat.le_of_ble_eq_true rfl) (Nat.le_of_ble_eq_true rfl) rfl (Nat.le_of_ble_eq_true rfl) dX6_now_6 (gCont_i ?_)
  obtain ⟨rfl, rfl⟩ := Prod.mk.inj (Option.some.inj hB)
  exact gw_iret rfl rfl rfl dX6_now_9
noncomputable def f_X6_now (κ : gK) (F : Nat) (a0 : Option Nat) (s : gS) : Option (Int32 × gS) := f_X6_now_0 κ F a0 s
theorem m_X6_now {E : gE} {F : Nat} (a0 : Option Nat) (s : gS) (r : Int32) (s' : gS) (h : f_X6_now (gk E) F a0 s = some (r, s')) : gCT E 2 yX6_now (ws_ yX6_now cX6_now 1 (some FieldType.int)) [vR a0] s (.inl (some (vI r))) s' := by
  refine gCT_of2 (fun h => absurd h (by decide)) (plainFor_of_name (by decide)) (Nat.le_of_ble_eq_true rfl) ?_
  exact gw_sub [0] rfl (w_X6_now_0 _ _ h)
def dkwX6_drafts_1 : List UInt8 := [17, 1, 211, 46, 172]
abbrev dktX6_drafts_1 : List UInt8 := dkwX6_drafts_1 ++ []
def dkwX6_drafts_0 : List UInt8 := [42, 180, 0, 7, 17, 1, 211, 46, 156, 0, 10, 42, 182, 0, 90, 167, 0, 11, 42, 180, 0, 7]
abbrev dktX6_drafts_0 : List UInt8 := dkwX6_drafts_0 ++ dktX6_drafts_1
theorem dksX6_drafts_0 : cX6_drafts.data.toList.drop 0 = dktX6_drafts_0 := by decide +kernel
theorem dksX6_drafts_1 : cX6_drafts.data.toList.drop 22 = dktX6_drafts_1 := dk_seg dksX6_drafts_0 22 rfl rfl
theorem dX6_drafts_0 : decode cX6_drafts 0 = .ok (.aload_n 0, 1) := dk_42 (dk_at dksX6_drafts_0 0 rfl rfl)
theorem dX6_drafts_1 : decode cX6_drafts 1 = .ok (.getfield 7, 3) := dk_180 0 7 (dk_at dksX6_drafts_0 1 rfl rfl)
theorem dX6_drafts_4 : decode cX6_drafts 4 = .ok (.sipush 467, 3) := dk_17 1 211 (dk_at dksX6_drafts_0 4 rfl rfl)
theorem dX6_drafts_7 : decode cX6_drafts 7 = .ok (.iaload, 1) := dk_46 (dk_at dksX6_drafts_0 7 rfl rfl)
theorem dX6_drafts_8 : decode cX6_drafts 8 = .ok (.ifCond .ge 10, 3) := dk_156 0 10 (dk_at dksX6_drafts_0 8 rfl rfl)
theorem dX6_drafts_11 : decode cX6_drafts 11 = .ok (.aload_n 0, 1) := dk_42 (dk_at dksX6_drafts_0 11 rfl rfl)
theorem dX6_drafts_12 : decode cX6_drafts 12 = .ok (.invokevirtual 90, 3) := dk_182 0 90 (dk_at dksX6_drafts_0 12 rfl rfl)
theorem dX6_drafts_15 : decode cX6_drafts 15 = .ok (.goto 11, 3) := dk_167 0 11 (dk_at dksX6_drafts_0 15 rfl rfl)
theorem dX6_drafts_18 : decode cX6_drafts 18 = .ok (.aload_n 0, 1) := dk_42 (dk_at dksX6_drafts_0 18 rfl rfl)
theorem dX6_drafts_19 : decode cX6_drafts 19 = .ok (.getfield 7, 3) := dk_180 0 7 (dk_at dksX6_drafts_0 19 rfl rfl)
theorem dX6_drafts_22 : decode cX6_drafts 22 = .ok (.sipush 467, 3) := dk_17 1 211 (dk_at dksX6_drafts_1 0 rfl rfl)
theorem dX6_drafts_25 : decode cX6_drafts 25 = .ok (.iaload, 1) := dk_46 (dk_at dksX6_drafts_1 3 rfl rfl)
theorem dX6_drafts_26 : decode cX6_drafts 26 = .ok (.ireturn, 1) := dk_172 (dk_at dksX6_drafts_1 4 rfl rfl)
/-! PageGardenModel.drafts()I -/
abbrev M_X6_drafts (z0 n0 : Nat) (s' : gS) : gM := (RX6, cX6_drafts, 1, (some FieldType.int), "drafts", [], 3, z0, n0, s'.2.1, s'.2.2)
abbrev W_X6_drafts (E : gE) (z0 n0 : Nat) (r : Int32) (s' : gS) (pc : Nat) (L : List (Nat × gV)) (st : List gV) (s : gS) : Prop := gW E (M_X6_drafts z0 n0 s') (gQm E (M_X6_drafts z0 n0 s') (.inl (some (vI r))) s') pc L st s
noncomputable def f_X6_drafts_26 (κ : gK) (F : Nat)  (t0 : Int32) (s : gS) : Option (Int32 × gS) :=
  some (t0, s)
set_option maxHeartbeats 4000000 in
theorem w_X6_drafts_26 {E : gE} {F z0 n0 : Nat} {r : Int32} {s' : gS}   : ∀  (t0 : Int32) (s : gS), f_X6_drafts_26 (gk E) F  t0 s = some (r, s') → W_X6_drafts E z0 n0 r s' 26 [] [vI t0] s := by
  intro t0 s hB
  unfold f_X6_drafts_26 at hB
  obtain ⟨rfl, rfl⟩ := Prod.mk.inj (Option.some.inj hB)
  exact gw_iret rfl rfl rfl dX6_drafts_26
noncomputable def f_X6_drafts_0 (κ : gK) (F : Nat)  (l0 : Option Nat) (s : gS) : Option (Int32 × gS) :=
  gB1 (gfR s l0 9 0) fun v1 =>
  gB1 (gaI s v1 0 (467 : Int32)) fun v2 =>
  if 0 ≤ v2 then
    gB1 (gfR s l0 9 0) fun v3 =>
    gB1 (gaI s v3 0 (467 : Int32)) fun v4 =>
    f_X6_drafts_26 κ F  v4 s
  else
    gB1 (gck s l0 9) fun _ =>
    gB2 (f_X6_now κ F l0  s) fun v6 s5 =>
    f_X6_drafts_26 κ F  v6 s5
set_option maxHeartbeats 4000000 in
theorem w_X6_drafts_0 {E : gE} {F z0 n0 : Nat} {r : Int32} {s' : gS}   : ∀ (l0 : Option Nat)  (s : gS), f_X6_drafts_0 (gk E) F  l0 s = some (r, s') → W_X6_drafts E z0 n0 r s' 0 [(0, vR l0)] [] s := by
  intro l0 s hB
  unfold f_X6_drafts_0 at hB
  refine gw_aload_n 0 rfl dX6_drafts_0 ?_
  obtain ⟨v1, hv1, hB⟩ := gB1_some hB
  refine gw_getf (C := RX6) (T := TX6) (N := 13) (k := 0) gcl9 (by decide) in_X6 q2694 (gfR_spec hv1) dX6_drafts_1 ?_
  refine gw_sipush (v := (467 : Int32)) (by decide) dX6_drafts_4 ?_
  obtain ⟨v2, hv2, hB⟩ := gB1_some hB
  refine gw_iaload hv2 dX6_drafts_7 ?_
  refine gw_if_ge (tgt := 18) dX6_drafts_8 (by decide) (fun hcnd => ?_) (fun hcnd => ?_)
  · rw [if_pos hcnd] at hB
    refine gw_aload_n 0 rfl dX6_drafts_18 ?_
    obtain ⟨v3, hv3, hB⟩ := gB1_some hB
    refine gw_getf (C := RX6) (T := TX6) (N := 13) (k := 0) gcl9 (by decide) in_X6 q2694 (gfR_spec hv3) dX6_drafts_19 ?_
    refine gw_sipush (v := (467 : Int32)) (by decide) dX6_drafts_22 ?_
    obtain ⟨v4, hv4, hB⟩ := gB1_some hB
    refine gw_iaload hv4 dX6_drafts_25 ?_
    exact gw_sub [] rfl (w_X6_drafts_26  _ _ hB)
  · rw [if_neg hcnd] at hB
    refine gw_aload_n 0 rfl dX6_drafts_11 ?_
    obtain ⟨u0, hu7, hB⟩ := gB1_some hB
    obtain ⟨v6, s5, hv6, hB⟩ := gB2_some hB
    refine gw_callV (y := yX6_now) (lw_V q2788 q2790 qs56 q143 q2791) hdV_X6_now gcl9 hu7 (As := []) (rest := []) (m_X6_now _ _ _ _ hv6) (Nat.le_of_ble_eq_true rfl) (Nat.le_of_ble_eq_true rfl) rfl (Nat.le_of_ble_eq_true rfl) dX6_drafts_12 (gCont_i ?_)
    refine gw_goto (tgt := 26) dX6_drafts_15 (by decide) ?_
    exact gw_sub [] rfl (w_X6_drafts_26  _ _ hB)
noncomputable def f_X6_drafts (κ : gK) (F : Nat) (a0 : Option Nat) (s : gS) : Option (Int32 × gS) := f_X6_drafts_0 κ F a0 s
theorem m_X6_drafts {E : gE} {F : Nat} (a0 : Option Nat) (s : gS) (r : Int32) (s' : gS) (h : f_X6_drafts (gk E) F a0 s = some (r, s')) : gCT E 3 yX6_drafts (ws_ yX6_drafts cX6_drafts 1 (some FieldType.int)) [vR a0] s (.inl (some (vI r))) s' := by
  refine gCT_of2 (fun h => absurd h (by decide)) (plainFor_of_name (by decide)) (Nat.le_of_ble_eq_true rfl) ?_
  exact gw_sub [0] rfl (w_X6_drafts_0 _ _ h)
def dkwX6_of_0 : List UInt8 := [42, 180, 0, 7, 3, 16, 14, 27, 104, 96, 28, 96, 46, 172]
abbrev dktX6_of_0 : List UInt8 := dkwX6_of_0 ++ []
theorem dksX6_of_0 : cX6_of.data.toList.drop 0 = dktX6_of_0 := by decide +kernel
theorem dX6_of_0 : decode cX6_of 0 = .ok (.aload_n 0, 1) := dk_42 (dk_at dksX6_of_0 0 rfl rfl)
theorem dX6_of_1 : decode cX6_of 1 = .ok (.getfield 7, 3) := dk_180 0 7 (dk_at dksX6_of_0 1 rfl rfl)
theorem dX6_of_4 : decode cX6_of 4 = .ok (.iconst 0, 1) := dk_3 (dk_at dksX6_of_0 4 rfl rfl)
theorem dX6_of_5 : decode cX6_of 5 = .ok (.bipush 14, 2) := dk_16 14 (dk_at dksX6_of_0 5 rfl rfl)
theorem dX6_of_7 : decode cX6_of 7 = .ok (.iload_n 1, 1) := dk_27 (dk_at dksX6_of_0 7 rfl rfl)
theorem dX6_of_8 : decode cX6_of 8 = .ok (.imul, 1) := dk_104 (dk_at dksX6_of_0 8 rfl rfl)
theorem dX6_of_9 : decode cX6_of 9 = .ok (.iadd, 1) := dk_96 (dk_at dksX6_of_0 9 rfl rfl)
theorem dX6_of_10 : decode cX6_of 10 = .ok (.iload_n 2, 1) := dk_28 (dk_at dksX6_of_0 10 rfl rfl)
theorem dX6_of_11 : decode cX6_of 11 = .ok (.iadd, 1) := dk_96 (dk_at dksX6_of_0 11 rfl rfl)
theorem dX6_of_12 : decode cX6_of 12 = .ok (.iaload, 1) := dk_46 (dk_at dksX6_of_0 12 rfl rfl)
theorem dX6_of_13 : decode cX6_of 13 = .ok (.ireturn, 1) := dk_172 (dk_at dksX6_of_0 13 rfl rfl)
/-! PageGardenModel.of(II)I -/
abbrev M_X6_of (z0 n0 : Nat) (s' : gS) : gM := (RX6, cX6_of, 3, (some FieldType.int), "of", [], 1, z0, n0, s'.2.1, s'.2.2)
abbrev W_X6_of (E : gE) (z0 n0 : Nat) (r : Int32) (s' : gS) (pc : Nat) (L : List (Nat × gV)) (st : List gV) (s : gS) : Prop := gW E (M_X6_of z0 n0 s') (gQm E (M_X6_of z0 n0 s') (.inl (some (vI r))) s') pc L st s
noncomputable def f_X6_of_0 (κ : gK) (F : Nat)  (l0 : Option Nat) (l1 : Int32) (l2 : Int32) (s : gS) : Option (Int32 × gS) :=
  gB1 (gfR s l0 9 0) fun v1 =>
  gB1 (gaI s v1 0 (((0 : Int32) + ((14 : Int32) * l1)) + l2)) fun v2 =>
  some (v2, s)
set_option maxHeartbeats 4000000 in
theorem w_X6_of_0 {E : gE} {F z0 n0 : Nat} {r : Int32} {s' : gS}   : ∀ (l0 : Option Nat) (l1 : Int32) (l2 : Int32)  (s : gS), f_X6_of_0 (gk E) F  l0 l1 l2 s = some (r, s') → W_X6_of E z0 n0 r s' 0 [(0, vR l0), (1, vI l1), (2, vI l2)] [] s := by
  intro l0 l1 l2 s hB
  unfold f_X6_of_0 at hB
  refine gw_aload_n 0 rfl dX6_of_0 ?_
  obtain ⟨v1, hv1, hB⟩ := gB1_some hB
  refine gw_getf (C := RX6) (T := TX6) (N := 13) (k := 0) gcl9 (by decide) in_X6 q2694 (gfR_spec hv1) dX6_of_1 ?_
  refine gw_iconst (v := (0 : Int32)) (by decide) dX6_of_4 ?_
  refine gw_bipush (v := (14 : Int32)) (by decide) dX6_of_5 ?_
  refine gw_iload_n 1 rfl dX6_of_7 ?_
  refine gw_imul dX6_of_8 ?_
  refine gw_iadd dX6_of_9 ?_
  refine gw_iload_n 2 rfl dX6_of_10 ?_
  refine gw_iadd dX6_of_11 ?_
  obtain ⟨v2, hv2, hB⟩ := gB1_some hB
  refine gw_iaload hv2 dX6_of_12 ?_
  obtain ⟨rfl, rfl⟩ := Prod.mk.inj (Option.some.inj hB)
  exact gw_iret rfl rfl rfl dX6_of_13
noncomputable def f_X6_of (κ : gK) (F : Nat) (a0 : Option Nat) (a1 : Int32) (a2 : Int32) (s : gS) : Option (Int32 × gS) := f_X6_of_0 κ F a0 a1 a2 s
theorem m_X6_of {E : gE} {F : Nat} (a0 : Option Nat) (a1 : Int32) (a2 : Int32) (s : gS) (r : Int32) (s' : gS) (h : f_X6_of (gk E) F a0 a1 a2 s = some (r, s')) : gCT E 1 yX6_of (ws_ yX6_of cX6_of 3 (some FieldType.int)) [vR a0, vI a1, vI a2] s (.inl (some (vI r))) s' := by
  refine gCT_of2 (fun h => absurd h (by decide)) (plainFor_of_name (by decide)) (Nat.le_of_ble_eq_true rfl) ?_
  exact gw_sub [0, 1, 2] rfl (w_X6_of_0 _ _ _ _ h)
def dkwX6_leafAt_0 : List UInt8 := [42, 27, 16, 6, 28, 96, 182, 0, 53, 172]
abbrev dktX6_leafAt_0 : List UInt8 := dkwX6_leafAt_0 ++ []
theorem dksX6_leafAt_0 : cX6_leafAt.data.toList.drop 0 = dktX6_leafAt_0 := by decide +kernel
theorem dX6_leafAt_0 : decode cX6_leafAt 0 = .ok (.aload_n 0, 1) := dk_42 (dk_at dksX6_leafAt_0 0 rfl rfl)
theorem dX6_leafAt_1 : decode cX6_leafAt 1 = .ok (.iload_n 1, 1) := dk_27 (dk_at dksX6_leafAt_0 1 rfl rfl)
theorem dX6_leafAt_2 : decode cX6_leafAt 2 = .ok (.bipush 6, 2) := dk_16 6 (dk_at dksX6_leafAt_0 2 rfl rfl)
theorem dX6_leafAt_4 : decode cX6_leafAt 4 = .ok (.iload_n 2, 1) := dk_28 (dk_at dksX6_leafAt_0 4 rfl rfl)
theorem dX6_leafAt_5 : decode cX6_leafAt 5 = .ok (.iadd, 1) := dk_96 (dk_at dksX6_leafAt_0 5 rfl rfl)
theorem dX6_leafAt_6 : decode cX6_leafAt 6 = .ok (.invokevirtual 53, 3) := dk_182 0 53 (dk_at dksX6_leafAt_0 6 rfl rfl)
theorem dX6_leafAt_9 : decode cX6_leafAt 9 = .ok (.ireturn, 1) := dk_172 (dk_at dksX6_leafAt_0 9 rfl rfl)
/-! PageGardenModel.leafAt(II)I -/
abbrev M_X6_leafAt (z0 n0 : Nat) (s' : gS) : gM := (RX6, cX6_leafAt, 3, (some FieldType.int), "leafAt", [], 2, z0, n0, s'.2.1, s'.2.2)
abbrev W_X6_leafAt (E : gE) (z0 n0 : Nat) (r : Int32) (s' : gS) (pc : Nat) (L : List (Nat × gV)) (st : List gV) (s : gS) : Prop := gW E (M_X6_leafAt z0 n0 s') (gQm E (M_X6_leafAt z0 n0 s') (.inl (some (vI r))) s') pc L st s
noncomputable def f_X6_leafAt_0 (κ : gK) (F : Nat)  (l0 : Option Nat) (l1 : Int32) (l2 : Int32) (s : gS) : Option (Int32 × gS) :=
  gB1 (gck s l0 9) fun _ =>
  gB2 (f_X6_of κ F l0 l1 ((6 : Int32) + l2) s) fun v2 s1 =>
  some (v2, s1)
set_option maxHeartbeats 4000000 in
theorem w_X6_leafAt_0 {E : gE} {F z0 n0 : Nat} {r : Int32} {s' : gS}   : ∀ (l0 : Option Nat) (l1 : Int32) (l2 : Int32)  (s : gS), f_X6_leafAt_0 (gk E) F  l0 l1 l2 s = some (r, s') → W_X6_leafAt E z0 n0 r s' 0 [(0, vR l0), (1, vI l1), (2, vI l2)] [] s := by
  intro l0 l1 l2 s hB
  unfold f_X6_leafAt_0 at hB
  refine gw_aload_n 0 rfl dX6_leafAt_0 ?_
  refine gw_iload_n 1 rfl dX6_leafAt_1 ?_
  refine gw_bipush (v := (6 : Int32)) (by decide) dX6_leafAt_2 ?_
  refine gw_iload_n 2 rfl dX6_leafAt_4 ?_
  refine gw_iadd dX6_leafAt_5 ?_
  obtain ⟨u0, hu3, hB⟩ := gB1_some hB
  obtain ⟨v2, s1, hv2, hB⟩ := gB2_some hB
  refine gw_callV (y := yX6_of) (lw_V q2796 q2798 qs58 q143 q2799) hdV_X6_of gcl9 hu3 (As := [vI l1, vI ((6 : Int32) + l2)]) (rest := []) (m_X6_of _ _ _ _ _ _ hv2) (Nat.le_of_ble_eq_true rfl) (Nat.le_of_ble_eq_true rfl) rfl (Nat.le_of_ble_eq_true rfl) dX6_leafAt_6 (gCont_i ?_)
  obtain ⟨rfl, rfl⟩ := Prod.mk.inj (Option.some.inj hB)
  exact gw_iret rfl rfl rfl dX6_leafAt_9
noncomputable def f_X6_leafAt (κ : gK) (F : Nat) (a0 : Option Nat) (a1 : Int32) (a2 : Int32) (s : gS) : Option (Int32 × gS) := f_X6_leafAt_0 κ F a0 a1 a2 s
theorem m_X6_leafAt {E : gE} {F : Nat} (a0 : Option Nat) (a1 : Int32) (a2 : Int32) (s : gS) (r : Int32) (s' : gS) (h : f_X6_leafAt (gk E) F a0 a1 a2 s = some (r, s')) : gCT E 2 yX6_leafAt (ws_ yX6_leafAt cX6_leafAt 3 (some FieldType.int)) [vR a0, vI a1, vI a2] s (.inl (some (vI r))) s' := by
  refine gCT_of2 (fun h => absurd h (by decide)) (plainFor_of_name (by decide)) (Nat.le_of_ble_eq_true rfl) ?_
  exact gw_sub [0, 1, 2] rfl (w_X6_leafAt_0 _ _ _ _ h)
def dkwX6_keyAt_0 : List UInt8 := [42, 27, 16, 6, 5, 28, 104, 96, 182, 0, 53, 172]
abbrev dktX6_keyAt_0 : List UInt8 := dkwX6_keyAt_0 ++ []
theorem dksX6_keyAt_0 : cX6_keyAt.data.toList.drop 0 = dktX6_keyAt_0 := by decide +kernel
theorem dX6_keyAt_0 : decode cX6_keyAt 0 = .ok (.aload_n 0, 1) := dk_42 (dk_at dksX6_keyAt_0 0 rfl rfl)
theorem dX6_keyAt_1 : decode cX6_keyAt 1 = .ok (.iload_n 1, 1) := dk_27 (dk_at dksX6_keyAt_0 1 rfl rfl)
theorem dX6_keyAt_2 : decode cX6_keyAt 2 = .ok (.bipush 6, 2) := dk_16 6 (dk_at dksX6_keyAt_0 2 rfl rfl)
theorem dX6_keyAt_4 : decode cX6_keyAt 4 = .ok (.iconst 2, 1) := dk_5 (dk_at dksX6_keyAt_0 4 rfl rfl)
theorem dX6_keyAt_5 : decode cX6_keyAt 5 = .ok (.iload_n 2, 1) := dk_28 (dk_at dksX6_keyAt_0 5 rfl rfl)
theorem dX6_keyAt_6 : decode cX6_keyAt 6 = .ok (.imul, 1) := dk_104 (dk_at dksX6_keyAt_0 6 rfl rfl)
theorem dX6_keyAt_7 : decode cX6_keyAt 7 = .ok (.iadd, 1) := dk_96 (dk_at dksX6_keyAt_0 7 rfl rfl)
theorem dX6_keyAt_8 : decode cX6_keyAt 8 = .ok (.invokevirtual 53, 3) := dk_182 0 53 (dk_at dksX6_keyAt_0 8 rfl rfl)
theorem dX6_keyAt_11 : decode cX6_keyAt 11 = .ok (.ireturn, 1) := dk_172 (dk_at dksX6_keyAt_0 11 rfl rfl)
/-! PageGardenModel.keyAt(II)I -/
abbrev M_X6_keyAt (z0 n0 : Nat) (s' : gS) : gM := (RX6, cX6_keyAt, 3, (some FieldType.int), "keyAt", [], 2, z0, n0, s'.2.1, s'.2.2)
abbrev W_X6_keyAt (E : gE) (z0 n0 : Nat) (r : Int32) (s' : gS) (pc : Nat) (L : List (Nat × gV)) (st : List gV) (s : gS) : Prop := gW E (M_X6_keyAt z0 n0 s') (gQm E (M_X6_keyAt z0 n0 s') (.inl (some (vI r))) s') pc L st s
noncomputable def f_X6_keyAt_0 (κ : gK) (F : Nat)  (l0 : Option Nat) (l1 : Int32) (l2 : Int32) (s : gS) : Option (Int32 × gS) :=
  gB1 (gck s l0 9) fun _ =>
  gB2 (f_X6_of κ F l0 l1 ((6 : Int32) + ((2 : Int32) * l2)) s) fun v2 s1 =>
  some (v2, s1)
set_option maxHeartbeats 4000000 in
theorem w_X6_keyAt_0 {E : gE} {F z0 n0 : Nat} {r : Int32} {s' : gS}   : ∀ (l0 : Option Nat) (l1 : Int32) (l2 : Int32)  (s : gS), f_X6_keyAt_0 (gk E) F  l0 l1 l2 s = some (r, s') → W_X6_keyAt E z0 n0 r s' 0 [(0, vR l0), (1, vI l1), (2, vI l2)] [] s := by
  intro l0 l1 l2 s hB
  unfold f_X6_keyAt_0 at hB
  refine gw_aload_n 0 rfl dX6_keyAt_0 ?_
  refine gw_iload_n 1 rfl dX6_keyAt_1 ?_
  refine gw_bipush (v := (6 : Int32)) (by decide) dX6_keyAt_2 ?_
  refine gw_iconst (v := (2 : Int32)) (by decide) dX6_keyAt_4 ?_
  refine gw_iload_n 2 rfl dX6_keyAt_5 ?_
  refine gw_imul dX6_keyAt_6 ?_
  refine gw_iadd dX6_keyAt_7 ?_
  obtain ⟨u0, hu3, hB⟩ := gB1_some hB
  obtain ⟨v2, s1, hv2, hB⟩ := gB2_some hB
  refine gw_callV (y := yX6_of) (lw_V q2796 q2798 qs58 q143 q2799) hdV_X6_of gcl9 hu3 (As := [vI l1, vI ((6 : Int32) + ((2 : Int32) * l2))]) (rest := []) (m_X6_of _ _ _ _ _ _ hv2) (Nat.le_of_ble_eq_true rfl) (Nat.le_of_ble_eq_true rfl) rfl (Nat.le_of_ble_eq_true rfl) dX6_keyAt_8 (gCont_i ?_)
  obtain ⟨rfl, rfl⟩ := Prod.mk.inj (Option.some.inj hB)
  exact gw_iret rfl rfl rfl dX6_keyAt_11
noncomputable def f_X6_keyAt (κ : gK) (F : Nat) (a0 : Option Nat) (a1 : Int32) (a2 : Int32) (s : gS) : Option (Int32 × gS) := f_X6_keyAt_0 κ F a0 a1 a2 s
theorem m_X6_keyAt {E : gE} {F : Nat} (a0 : Option Nat) (a1 : Int32) (a2 : Int32) (s : gS) (r : Int32) (s' : gS) (h : f_X6_keyAt (gk E) F a0 a1 a2 s = some (r, s')) : gCT E 2 yX6_keyAt (ws_ yX6_keyAt cX6_keyAt 3 (some FieldType.int)) [vR a0, vI a1, vI a2] s (.inl (some (vI r))) s' := by
  refine gCT_of2 (fun h => absurd h (by decide)) (plainFor_of_name (by decide)) (Nat.le_of_ble_eq_true rfl) ?_
  exact gw_sub [0, 1, 2] rfl (w_X6_keyAt_0 _ _ _ _ h)
def dkwX6_placeFor_2 : List UInt8 := [167, 0, 4, 29, 62, 132, 4, 1, 167, 255, 219, 29, 172]
abbrev dktX6_placeFor_2 : List UInt8 := dkwX6_placeFor_2 ++ []
def dkwX6_placeFor_1 : List UInt8 := [182, 0, 53, 162, 0, 32, 42, 42, 27, 21, 4, 182, 0, 75, 3, 182, 0, 78, 28, 163, 0, 8, 21, 4]
abbrev dktX6_placeFor_1 : List UInt8 := dkwX6_placeFor_1 ++ dktX6_placeFor_2
def dkwX6_placeFor_0 : List UInt8 := [42, 27, 5, 182, 0, 53, 154, 0, 7, 2, 167, 0, 4, 3, 62, 3, 54, 4, 21, 4, 42, 27, 5]
abbrev dktX6_placeFor_0 : List UInt8 := dkwX6_placeFor_0 ++ dktX6_placeFor_1
theorem dksX6_placeFor_0 : cX6_placeFor.data.toList.drop 0 = dktX6_placeFor_0 := by decide +kernel
theorem dksX6_placeFor_1 : cX6_placeFor.data.toList.drop 23 = dktX6_placeFor_1 := dk_seg dksX6_placeFor_0 23 rfl rfl
theorem dksX6_placeFor_2 : cX6_placeFor.data.toList.drop 47 = dktX6_placeFor_2 := dk_seg dksX6_placeFor_1 24 rfl rfl
theorem dX6_placeFor_0 : decode cX6_placeFor 0 = .ok (.aload_n 0, 1) := dk_42 (dk_at dksX6_placeFor_0 0 rfl rfl)
theorem dX6_placeFor_1 : decode cX6_placeFor 1 = .ok (.iload_n 1, 1) := dk_27 (dk_at dksX6_placeFor_0 1 rfl rfl)
theorem dX6_placeFor_2 : decode cX6_placeFor 2 = .ok (.iconst 2, 1) := dk_5 (dk_at dksX6_placeFor_0 2 rfl rfl)
theorem dX6_placeFor_3 : decode cX6_placeFor 3 = .ok (.invokevirtual 53, 3) := dk_182 0 53 (dk_at dksX6_placeFor_0 3 rfl rfl)
theorem dX6_placeFor_6 : decode cX6_placeFor 6 = .ok (.ifCond .ne 7, 3) := dk_154 0 7 (dk_at dksX6_placeFor_0 6 rfl rfl)
theorem dX6_placeFor_9 : decode cX6_placeFor 9 = .ok (.iconst (-1), 1) := dk_2 (dk_at dksX6_placeFor_0 9 rfl rfl)
theorem dX6_placeFor_10 : decode cX6_placeFor 10 = .ok (.goto 4, 3) := dk_167 0 4 (dk_at dksX6_placeFor_0 10 rfl rfl)
theorem dX6_placeFor_13 : decode cX6_placeFor 13 = .ok (.iconst 0, 1) := dk_3 (dk_at dksX6_placeFor_0 13 rfl rfl)
theorem dX6_placeFor_14 : decode cX6_placeFor 14 = .ok (.istore_n 3, 1) := dk_62 (dk_at dksX6_placeFor_0 14 rfl rfl)
theorem dX6_placeFor_15 : decode cX6_placeFor 15 = .ok (.iconst 0, 1) := dk_3 (dk_at dksX6_placeFor_0 15 rfl rfl)
theorem dX6_placeFor_16 : decode cX6_placeFor 16 = .ok (.istore 4, 2) := dk_54 4 (dk_at dksX6_placeFor_0 16 rfl rfl)
theorem dX6_placeFor_18 : decode cX6_placeFor 18 = .ok (.iload 4, 2) := dk_21 4 (dk_at dksX6_placeFor_0 18 rfl rfl)
theorem dX6_placeFor_20 : decode cX6_placeFor 20 = .ok (.aload_n 0, 1) := dk_42 (dk_at dksX6_placeFor_0 20 rfl rfl)
theorem dX6_placeFor_21 : decode cX6_placeFor 21 = .ok (.iload_n 1, 1) := dk_27 (dk_at dksX6_placeFor_0 21 rfl rfl)
theorem dX6_placeFor_22 : decode cX6_placeFor 22 = .ok (.iconst 2, 1) := dk_5 (dk_at dksX6_placeFor_0 22 rfl rfl)
theorem dX6_placeFor_23 : decode cX6_placeFor 23 = .ok (.invokevirtual 53, 3) := dk_182 0 53 (dk_at dksX6_placeFor_1 0 rfl rfl)
theorem dX6_placeFor_26 : decode cX6_placeFor 26 = .ok (.if_icmp .ge 32, 3) := dk_162 0 32 (dk_at dksX6_placeFor_1 3 rfl rfl)
theorem dX6_placeFor_29 : decode cX6_placeFor 29 = .ok (.aload_n 0, 1) := dk_42 (dk_at dksX6_placeFor_1 6 rfl rfl)
theorem dX6_placeFor_30 : decode cX6_placeFor 30 = .ok (.aload_n 0, 1) := dk_42 (dk_at dksX6_placeFor_1 7 rfl rfl)
theorem dX6_placeFor_31 : decode cX6_placeFor 31 = .ok (.iload_n 1, 1) := dk_27 (dk_at dksX6_placeFor_1 8 rfl rfl)
theorem dX6_placeFor_32 : decode cX6_placeFor 32 = .ok (.iload 4, 2) := dk_21 4 (dk_at dksX6_placeFor_1 9 rfl rfl)
theorem dX6_placeFor_34 : decode cX6_placeFor 34 = .ok (.invokevirtual 75, 3) := dk_182 0 75 (dk_at dksX6_placeFor_1 11 rfl rfl)
theorem dX6_placeFor_37 : decode cX6_placeFor 37 = .ok (.iconst 0, 1) := dk_3 (dk_at dksX6_placeFor_1 14 rfl rfl)
theorem dX6_placeFor_38 : decode cX6_placeFor 38 = .ok (.invokevirtual 78, 3) := dk_182 0 78 (dk_at dksX6_placeFor_1 15 rfl rfl)
theorem dX6_placeFor_41 : decode cX6_placeFor 41 = .ok (.iload_n 2, 1) := dk_28 (dk_at dksX6_placeFor_1 18 rfl rfl)
theorem dX6_placeFor_42 : decode cX6_placeFor 42 = .ok (.if_icmp .gt 8, 3) := dk_163 0 8 (dk_at dksX6_placeFor_1 19 rfl rfl)
theorem dX6_placeFor_45 : decode cX6_placeFor 45 = .ok (.iload 4, 2) := dk_21 4 (dk_at dksX6_placeFor_1 22 rfl rfl)
theorem dX6_placeFor_47 : decode cX6_placeFor 47 = .ok (.goto 4, 3) := dk_167 0 4 (dk_at dksX6_placeFor_2 0 rfl rfl)
theorem dX6_placeFor_50 : decode cX6_placeFor 50 = .ok (.iload_n 3, 1) := dk_29 (dk_at dksX6_placeFor_2 3 rfl rfl)
theorem dX6_placeFor_51 : decode cX6_placeFor 51 = .ok (.istore_n 3, 1) := dk_62 (dk_at dksX6_placeFor_2 4 rfl rfl)
theorem dX6_placeFor_52 : decode cX6_placeFor 52 = .ok (.iinc 4 1, 3) := dk_132 4 1 (dk_at dksX6_placeFor_2 5 rfl rfl)
theorem dX6_placeFor_55 : decode cX6_placeFor 55 = .ok (.goto (-37), 3) := dk_167 255 219 (dk_at dksX6_placeFor_2 8 rfl rfl)
theorem dX6_placeFor_58 : decode cX6_placeFor 58 = .ok (.iload_n 3, 1) := dk_29 (dk_at dksX6_placeFor_2 11 rfl rfl)
theorem dX6_placeFor_59 : decode cX6_placeFor 59 = .ok (.ireturn, 1) := dk_172 (dk_at dksX6_placeFor_2 12 rfl rfl)
/-! PageGardenModel.placeFor(II)I -/
abbrev M_X6_placeFor (z0 n0 : Nat) (s' : gS) : gM := (RX6, cX6_placeFor, 5, (some FieldType.int), "placeFor", [], 3, z0, n0, s'.2.1, s'.2.2)
abbrev W_X6_placeFor (E : gE) (z0 n0 : Nat) (r : Int32) (s' : gS) (pc : Nat) (L : List (Nat × gV)) (st : List gV) (s : gS) : Prop := gW E (M_X6_placeFor z0 n0 s') (gQm E (M_X6_placeFor z0 n0 s') (.inl (some (vI r))) s') pc L st s
noncomputable def f_X6_placeFor_51 (κ : gK) (F : Nat) (k18 : Option Nat → Int32 → Int32 → Int32 → Int32 → gS → Option (Int32 × gS)) (l0 : Option Nat) (l1 : Int32) (l2 : Int32) (l4 : Int32) (t0 : Int32) (s : gS) : Option (Int32 × gS) :=
  k18 l0 l1 l2 t0 (l4 + (1 : Int32)) s
set_option maxHeartbeats 4000000 in
theorem w_X6_placeFor_51 {E : gE} {F z0 n0 : Nat} {r : Int32} {s' : gS} {k18 : Option Nat → Int32 → Int32 → Int32 → Int32 → gS → Option (Int32 × gS)} (hk18 : ∀ (l0 : Option Nat) (l1 : Int32) (l2 : Int32) (l3 : Int32) (l4 : Int32) (s : gS), k18 l0 l1 l2 l3 l4 s = some (r, s') → W_X6_placeFor E z0 n0 r s' 18 [(0, vR l0), (1, vI l1), (2, vI l2), (3, vI l3), (4, vI l4)] [] s) : ∀ (l0 : Option Nat) (l1 : Int32) (l2 : Int32) (l4 : Int32) (t0 : Int32) (s : gS), f_X6_placeFor_51 (gk E) F k18 l0 l1 l2 l4 t0 s = some (r, s') → W_X6_placeFor E z0 n0 r s' 51 [(0, vR l0), (1, vI l1), (2, vI l2), (4, vI l4)] [vI t0] s := by
  intro l0 l1 l2 l4 t0 s hB
  unfold f_X6_placeFor_51 at hB
  refine gw_istore_n (L' := [(3, vI t0), (0, vR l0), (1, vI l1), (2, vI l2), (4, vI l4)]) (Nat.le_of_ble_eq_true rfl) rfl dX6_placeFor_51 ?_
  refine gw_iinc (w := (1 : Int32)) (L' := [(4, vI (l4 + (1 : Int32))), (3, vI t0), (0, vR l0), (1, vI l1), (2, vI l2)]) 4 rfl (by decide) (Nat.le_of_ble_eq_true rfl) rfl dX6_placeFor_52 ?_
  refine gw_goto (tgt := 18) dX6_placeFor_55 (by decide) ?_
  exact gw_sub [2, 3, 4, 1, 0] rfl (hk18 _ _ _ _ _ _ hB)
noncomputable def f_X6_placeFor_18b (κ : gK) (F : Nat) (k18 : Option Nat → Int32 → Int32 → Int32 → Int32 → gS → Option (Int32 × gS)) (l0 : Option Nat) (l1 : Int32) (l2 : Int32) (l3 : Int32) (l4 : Int32) (s : gS) : Option (Int32 × gS) :=
  gB1 (gck s l0 9) fun _ =>
  gB2 (f_X6_of κ F l0 l1 (2 : Int32) s) fun v2 s1 =>
  if v2 ≤ l4 then
    some (l3, s1)
  else
    gB1 (gck s1 l0 9) fun _ =>
    gB2 (f_X6_leafAt κ F l0 l1 l4 s1) fun v5 s4 =>
    gB1 (gck s4 l0 9) fun _ =>
    gB2 (f_X6_keyAt κ F l0 v5 (0 : Int32) s4) fun v8 s7 =>
    if l2 < v8 then
      f_X6_placeFor_51 κ F k18 l0 l1 l2 l4 l3 s7
    else
      f_X6_placeFor_51 κ F k18 l0 l1 l2 l4 l4 s7
noncomputable def f_X6_placeFor_18 (κ : gK) (F : Nat)  : Nat → Option Nat → Int32 → Int32 → Int32 → Int32 → gS → Option (Int32 × gS)
  | 0 => fun _ _ _ _ _ _ => none
  | n + 1 => f_X6_placeFor_18b κ F  (f_X6_placeFor_18 κ F  n)
set_option maxHeartbeats 4000000 in
theorem w_X6_placeFor_18b {E : gE} {F z0 n0 : Nat} {r : Int32} {s' : gS} {k18 : Option Nat → Int32 → Int32 → Int32 → Int32 → gS → Option (Int32 × gS)} (hk18 : ∀ (l0 : Option Nat) (l1 : Int32) (l2 : Int32) (l3 : Int32) (l4 : Int32) (s : gS), k18 l0 l1 l2 l3 l4 s = some (r, s') → W_X6_placeFor E z0 n0 r s' 18 [(0, vR l0), (1, vI l1), (2, vI l2), (3, vI l3), (4, vI l4)] [] s) : ∀ (l0 : Option Nat) (l1 : Int32) (l2 : Int32) (l3 : Int32) (l4 : Int32)  (s : gS), f_X6_placeFor_18b (gk E) F k18 l0 l1 l2 l3 l4 s = some (r, s') → W_X6_placeFor E z0 n0 r s' 18 [(0, vR l0), (1, vI l1), (2, vI l2), (3, vI l3), (4, vI l4)] [] s := by
  intro l0 l1 l2 l3 l4 s hB
  unfold f_X6_placeFor_18b at hB
  refine gw_iload 4 rfl dX6_placeFor_18 ?_
  refine gw_aload_n 0 rfl dX6_placeFor_20 ?_
  refine gw_iload_n 1 rfl dX6_placeFor_21 ?_
  refine gw_iconst (v := (2 : Int32)) (by decide) dX6_placeFor_22 ?_
  obtain ⟨u0, hu3, hB⟩ := gB1_some hB
  obtain ⟨v2, s1, hv2, hB⟩ := gB2_some hB
  refine gw_callV (y := yX6_of) (lw_V q2796 q2798 qs58 q143 q2799) hdV_X6_of gcl9 hu3 (As := [vI l1, vI (2 : Int32)]) (rest := [vI l4]) (m_X6_of _ _ _ _ _ _ hv2) (Nat.le_of_ble_eq_true rfl) (Nat.le_of_ble_eq_true rfl) rfl (Nat.le_of_ble_eq_true rfl) dX6_placeFor_23 (gCont_i ?_)
  refine gw_icmp_ge (tgt := 58) dX6_placeFor_26 (by decide) (fun hcnd => ?_) (fun hcnd => ?_)
  · rw [if_pos hcnd] at hB
    refine gw_iload_n 3 rfl dX6_placeFor_58 ?_
    obtain ⟨rfl, rfl⟩ := Prod.mk.inj (Option.some.inj hB)
    exact gw_iret rfl rfl rfl dX6_placeFor_59
  · rw [if_neg hcnd] at hB
    refine gw_aload_n 0 rfl dX6_placeFor_29 ?_
    refine gw_aload_n 0 rfl dX6_placeFor_30 ?_
    refine gw_iload_n 1 rfl dX6_placeFor_31 ?_
    refine gw_iload 4 rfl dX6_placeFor_32 ?_
    obtain ⟨u0, hu6, hB⟩ := gB1_some hB
    obtain ⟨v5, s4, hv5, hB⟩ := gB2_some hB
    refine gw_callV (y := yX6_leafAt) (lw_V q2800 q2802 qs59 q143 q2803) hdV_X6_leafAt gcl9 hu6 (As := [vI l1, vI l4]) (rest := [vR l0]) (m_X6_leafAt _ _ _ _ _ _ hv5) (Nat.le_of_ble_eq_true rfl) (Nat.le_of_ble_eq_true rfl) rfl (Nat.le_of_ble_eq_true rfl) dX6_placeFor_34 (gCont_i ?_)
    refine gw_iconst (v := (0 : Int32)) (by decide) dX6_placeFor_37 ?_
    obtain ⟨u0, hu9, hB⟩ := gB1_some hB
    obtain ⟨v8, s7, hv8, hB⟩ := gB2_some hB
    refine gw_callV (y := yX6_keyAt) (lw_V q2804 q2806 qs60 q143 q2807) hdV_X6_keyAt gcl9 hu9 (As := [vI v5, vI (0 : Int32)]) (rest := []) (m_X6_keyAt _ _ _ _ _ _ hv8) (Nat.le_of_ble_eq_true rfl) (Nat.le_of_ble_eq_true rfl) rfl (Nat.le_of_ble_eq_true rfl) dX6_placeFor_38 (gCont_i ?_)
    refine gw_iload_n 2 rfl dX6_placeFor_41 ?_
    refine gw_icmp_gt (tgt := 50) dX6_placeFor_42 (by decide) (fun hcnd => ?_) (fun hcnd => ?_)
    · rw [if_pos hcnd] at hB
      refine gw_iload_n 3 rfl dX6_placeFor_50 ?_
      exact gw_sub [0, 1, 2, 4] rfl (w_X6_placeFor_51 hk18 _ _ _ _ _ _ hB)
    · rw [if_neg hcnd] at hB
      refine gw_iload 4 rfl dX6_placeFor_45 ?_
      refine gw_goto (tgt := 51) dX6_placeFor_47 (by decide) ?_
      exact gw_sub [0, 1, 2, 4] rfl (w_X6_placeFor_51 hk18 _ _ _ _ _ _ hB)
theorem w_X6_placeFor_18 {E : gE} {F z0 n0 : Nat} {r : Int32} {s' : gS}   : ∀ (n : Nat) (l0 : Option Nat) (l1 : Int32) (l2 : Int32) (l3 : Int32) (l4 : Int32)  (s : gS), f_X6_placeFor_18 (gk E) F  n l0 l1 l2 l3 l4 s = some (r, s') → W_X6_placeFor E z0 n0 r s' 18 [(0, vR l0), (1, vI l1), (2, vI l2), (3, vI l3), (4, vI l4)] [] s := by
  intro n
  induction n with
  | zero => intro l0 l1 l2 l3 l4 s hB; cases hB
  | succ n ih => intro l0 l1 l2 l3 l4 s hB; exact w_X6_placeFor_18b ih l0 l1 l2 l3 l4 s hB
noncomputable def f_X6_placeFor_14 (κ : gK) (F : Nat)  (l0 : Option Nat) (l1 : Int32) (l2 : Int32) (t0 : Int32) (s : gS) : Option (Int32 × gS) :=
  f_X6_placeFor_18 κ F  F l0 l1 l2 t0 (0 : Int32) s
set_option maxHeartbeats 4000000 in
theorem w_X6_placeFor_14 {E : gE} {F z0 n0 : Nat} {r : Int32} {s' : gS}   : ∀ (l0 : Option Nat) (l1 : Int32) (l2 : Int32) (t0 : Int32) (s : gS), f_X6_placeFor_14 (gk E) F  l0 l1 l2 t0 s = some (r, s') → W_X6_placeFor E z0 n0 r s' 14 [(0, vR l0), (1, vI l1), (2, vI l2)] [vI t0] s := by
  intro l0 l1 l2 t0 s hB
  unfold f_X6_placeFor_14 at hB
  refine gw_istore_n (L' := [(3, vI t0), (0, vR l0), (1, vI l1), (2, vI l2)]) (Nat.le_of_ble_eq_true rfl) rfl dX6_placeFor_14 ?_
  refine gw_iconst (v := (0 : Int32)) (by decide) dX6_placeFor_15 ?_
  refine gw_istore (L' := [(4, vI (0 : Int32)), (3, vI t0), (0, vR l0), (1, vI l1), (2, vI l2)]) (Nat.le_of_ble_eq_true rfl) rfl dX6_placeFor_16 ?_
  exact gw_sub [2, 3, 4, 1, 0] rfl (w_X6_placeFor_18  F _ _ _ _ _ _ hB)
noncomputable def f_X6_placeFor_0 (κ : gK) (F : Nat)  (l0 : Option Nat) (l1 : Int32) (l2 : Int32) (s : gS) : Option (Int32 × gS) :=
  gB1 (gck s l0 9) fun _ =>
  gB2 (f_X6_of κ F l0 l1 (2 : Int32) s) fun v2 s1 =>
  if v2 = 0 then
    f_X6_placeFor_14 κ F  l0 l1 l2 (-1 : Int32) s1
  else
    f_X6_placeFor_14 κ F  l0 l1 l2 (0 : Int32) s1
set_option maxHeartbeats 4000000 in
theorem w_X6_placeFor_0 {E : gE} {F z0 n0 : Nat} {r : Int32} {s' : gS}   : ∀ (l0 : Option Nat) (l1 : Int32) (l2 : Int32)  (s : gS), f_X6_placeFor_0 (gk E) F  l0 l1 l2 s = some (r, s') → W_X6_placeFor E z0 n0 r s' 0 [(0, vR l0), (1, vI l1), (2, vI l2)] [] s := by
  intro l0 l1 l2 s hB
  unfold f_X6_placeFor_0 at hB
  refine gw_aload_n 0 rfl dX6_placeFor_0 ?_
  refine gw_iload_n 1 rfl dX6_placeFor_1 ?_
  refine gw_iconst (v := (2 : Int32)) (by decide) dX6_placeFor_2 ?_
  obtain ⟨u0, hu3, hB⟩ := gB1_some hB
  obtain ⟨v2, s1, hv2, hB⟩ := gB2_some hB
  refine gw_callV (y := yX6_of) (lw_V q2796 q2798 qs58 q143 q2799) hdV_X6_of gcl9 hu3 (As := [vI l1, vI (2 : Int32)]) (rest := []) (m_X6_of _ _ _ _ _ _ hv2) (Nat.le_of_ble_eq_true rfl) (Nat.le_of_ble_eq_true rfl) rfl (Nat.le_of_ble_eq_true rfl) dX6_placeFor_3 (gCont_i ?_)
  refine gw_if_ne (tgt := 13) dX6_placeFor_6 (by decide) (fun hcnd => ?_) (fun hcnd => ?_)
  · rw [if_neg hcnd] at hB
    refine gw_iconst (v := (0 : Int32)) (by decide) dX6_placeFor_13 ?_
    exact gw_sub [0, 1, 2] rfl (w_X6_placeFor_14  _ _ _ _ _ hB)
  · rw [if_pos hcnd] at hB
    refine gw_iconst (v := (-1 : Int32)) (by decide) dX6_placeFor_9 ?_
    refine gw_goto (tgt := 14) dX6_placeFor_10 (by decide) ?_
    exact gw_sub [0, 1, 2] rfl (w_X6_placeFor_14  _ _ _ _ _ hB)
noncomputable def f_X6_placeFor (κ : gK) (F : Nat) (a0 : Option Nat) (a1 : Int32) (a2 : Int32) (s : gS) : Option (Int32 × gS) := f_X6_placeFor_0 κ F a0 a1 a2 s
theorem m_X6_placeFor {E : gE} {F : Nat} (a0 : Option Nat) (a1 : Int32) (a2 : Int32) (s : gS) (r : Int32) (s' : gS) (h : f_X6_placeFor (gk E) F a0 a1 a2 s = some (r, s')) : gCT E 3 yX6_placeFor (ws_ yX6_placeFor cX6_placeFor 5 (some FieldType.int)) [vR a0, vI a1, vI a2] s (.inl (some (vI r))) s' := by
  refine gCT_of2 (fun h => absurd h (by decide)) (plainFor_of_name (by decide)) (Nat.le_of_ble_eq_true rfl) ?_
  exact gw_sub [0, 1, 2] rfl (w_X6_placeFor_0 _ _ _ _ h)
def dkwX6_placeIn_1 : List UInt8 := [132, 3, 1, 167, 255, 231, 2, 172]
abbrev dktX6_placeIn_1 : List UInt8 := dkwX6_placeIn_1 ++ []
def dkwX6_placeIn_0 : List UInt8 := [3, 62, 29, 42, 27, 5, 182, 0, 53, 162, 0, 21, 42, 27, 29, 182, 0, 78, 28, 160, 0, 5, 29, 172]
abbrev dktX6_placeIn_0 : List UInt8 := dkwX6_placeIn_0 ++ dktX6_placeIn_1
theorem dksX6_placeIn_0 : cX6_placeIn.data.toList.drop 0 = dktX6_placeIn_0 := by decide +kernel
theorem dksX6_placeIn_1 : cX6_placeIn.data.toList.drop 24 = dktX6_placeIn_1 := dk_seg dksX6_placeIn_0 24 rfl rfl
theorem dX6_placeIn_0 : decode cX6_placeIn 0 = .ok (.iconst 0, 1) := dk_3 (dk_at dksX6_placeIn_0 0 rfl rfl)
theorem dX6_placeIn_1 : decode cX6_placeIn 1 = .ok (.istore_n 3, 1) := dk_62 (dk_at dksX6_placeIn_0 1 rfl rfl)
theorem dX6_placeIn_2 : decode cX6_placeIn 2 = .ok (.iload_n 3, 1) := dk_29 (dk_at dksX6_placeIn_0 2 rfl rfl)
theorem dX6_placeIn_3 : decode cX6_placeIn 3 = .ok (.aload_n 0, 1) := dk_42 (dk_at dksX6_placeIn_0 3 rfl rfl)
theorem dX6_placeIn_4 : decode cX6_placeIn 4 = .ok (.iload_n 1, 1) := dk_27 (dk_at dksX6_placeIn_0 4 rfl rfl)
theorem dX6_placeIn_5 : decode cX6_placeIn 5 = .ok (.iconst 2, 1) := dk_5 (dk_at dksX6_placeIn_0 5 rfl rfl)
theorem dX6_placeIn_6 : decode cX6_placeIn 6 = .ok (.invokevirtual 53, 3) := dk_182 0 53 (dk_at dksX6_placeIn_0 6 rfl rfl)
theorem dX6_placeIn_9 : decode cX6_placeIn 9 = .ok (.if_icmp .ge 21, 3) := dk_162 0 21 (dk_at dksX6_placeIn_0 9 rfl rfl)
theorem dX6_placeIn_12 : decode cX6_placeIn 12 = .ok (.aload_n 0, 1) := dk_42 (dk_at dksX6_placeIn_0 12 rfl rfl)
theorem dX6_placeIn_13 : decode cX6_placeIn 13 = .ok (.iload_n 1, 1) := dk_27 (dk_at dksX6_placeIn_0 13 rfl rfl)
theorem dX6_placeIn_14 : decode cX6_placeIn 14 = .ok (.iload_n 3, 1) := dk_29 (dk_at dksX6_placeIn_0 14 rfl rfl)
theorem dX6_placeIn_15 : decode cX6_placeIn 15 = .ok (.invokevirtual 78, 3) := dk_182 0 78 (dk_at dksX6_placeIn_0 15 rfl rfl)
theorem dX6_placeIn_18 : decode cX6_placeIn 18 = .ok (.iload_n 2, 1) := dk_28 (dk_at dksX6_placeIn_0 18 rfl rfl)
theorem dX6_placeIn_19 : decode cX6_placeIn 19 = .ok (.if_icmp .ne 5, 3) := dk_160 0 5 (dk_at dksX6_placeIn_0 19 rfl rfl)
theorem dX6_placeIn_22 : decode cX6_placeIn 22 = .ok (.iload_n 3, 1) := dk_29 (dk_at dksX6_placeIn_0 22 rfl rfl)
theorem dX6_placeIn_23 : decode cX6_placeIn 23 = .ok (.ireturn, 1) := dk_172 (dk_at dksX6_placeIn_0 23 rfl rfl)
theorem dX6_placeIn_24 : decode cX6_placeIn 24 = .ok (.iinc 3 1, 3) := dk_132 3 1 (dk_at dksX6_placeIn_1 0 rfl rfl)
theorem dX6_placeIn_27 : decode cX6_placeIn 27 = .ok (.goto (-25), 3) := dk_167 255 231 (dk_at dksX6_placeIn_1 3 rfl rfl)
theorem dX6_placeIn_30 : decode cX6_placeIn 30 = .ok (.iconst (-1), 1) := dk_2 (dk_at dksX6_placeIn_1 6 rfl rfl)
theorem dX6_placeIn_31 : decode cX6_placeIn 31 = .ok (.ireturn, 1) := dk_172 (dk_at dksX6_placeIn_1 7 rfl rfl)
/-! PageGardenModel.placeIn(II)I -/
abbrev M_X6_placeIn (z0 n0 : Nat) (s' : gS) : gM := (RX6, cX6_placeIn, 4, (some FieldType.int), "placeIn", [], 3, z0, n0, s'.2.1, s'.2.2)
abbrev W_X6_placeIn (E : gE) (z0 n0 : Nat) (r : Int32) (s' : gS) (pc : Nat) (L : List (Nat × gV)) (st : List gV) (s : gS) : Prop := gW E (M_X6_placeIn z0 n0 s') (gQm E (M_X6_placeIn z0 n0 s') (.inl (some (vI r))) s') pc L st s
noncomputable def f_X6_placeIn_2b (κ : gK) (F : Nat) (k2 : Option Nat → Int32 → Int32 → Int32 → gS → Option (Int32 × gS)) (l0 : Option Nat) (l1 : Int32) (l2 : Int32) (l3 : Int32) (s : gS) : Option (Int32 × gS) :=
  gB1 (gck s l0 9) fun _ =>
  gB2 (f_X6_of κ F l0 l1 (2 : Int32) s) fun v2 s1 =>
  if v2 ≤ l3 then
    some ((-1 : Int32), s1)
  else
    gB1 (gck s1 l0 9) fun _ =>
    gB2 (f_X6_keyAt κ F l0 l1 l3 s1) fun v5 s4 =>
    if v5 = l2 then
      some (l3, s4)
    else
      k2 l0 l1 l2 (l3 + (1 : Int32)) s4
noncomputable def f_X6_placeIn_2 (κ : gK) (F : Nat)  : Nat → Option Nat → Int32 → Int32 → Int32 → gS → Option (Int32 × gS)
  | 0 => fun _ _ _ _ _ => none
  | n + 1 => f_X6_placeIn_2b κ F  (f_X6_placeIn_2 κ F  n)
set_option maxHeartbeats 4000000 in
theorem w_X6_placeIn_2b {E : gE} {F z0 n0 : Nat} {r : Int32} {s' : gS} {k2 : Option Nat → Int32 → Int32 → Int32 → gS → Option (Int32 × gS)} (hk2 : ∀ (l0 : Option Nat) (l1 : Int32) (l2 : Int32) (l3 : Int32) (s : gS), k2 l0 l1 l2 l3 s = some (r, s') → W_X6_placeIn E z0 n0 r s' 2 [(0, vR l0), (1, vI l1), (2, vI l2), (3, vI l3)] [] s) : ∀ (l0 : Option Nat) (l1 : Int32) (l2 : Int32) (l3 : Int32)  (s : gS), f_X6_placeIn_2b (gk E) F k2 l0 l1 l2 l3 s = some (r, s') → W_X6_placeIn E z0 n0 r s' 2 [(0, vR l0), (1, vI l1), (2, vI l2), (3, vI l3)] [] s := by
  intro l0 l1 l2 l3 s hB
  unfold f_X6_placeIn_2b at hB
  refine gw_iload_n 3 rfl dX6_placeIn_2 ?_
  refine gw_aload_n 0 rfl dX6_placeIn_3 ?_
  refine gw_iload_n 1 rfl dX6_placeIn_4 ?_
  refine gw_iconst (v := (2 : Int32)) (by decide) dX6_placeIn_5 ?_
  obtain ⟨u0, hu3, hB⟩ := gB1_some hB
  obtain ⟨v2, s1, hv2, hB⟩ := gB2_some hB
  refine gw_callV (y := yX6_of) (lw_V q2796 q2798 qs58 q143 q2799) hdV_X6_of gcl9 hu3 (As := [vI l1, vI (2 : Int32)]) (rest := [vI l3]) (m_X6_of _ _ _ _ _ _ hv2) (Nat.le_of_ble_eq_true rfl) (Nat.le_of_ble_eq_true rfl) rfl (Nat.le_of_ble_eq_true rfl) dX6_placeIn_6 (gCont_i ?_)
  refine gw_icmp_ge (tgt := 30) dX6_placeIn_9 (by decide) (fun hcnd => ?_) (fun hcnd => ?_)
  · rw [if_pos hcnd] at hB
    refine gw_iconst (v := (-1 : Int32)) (by decide) dX6_placeIn_30 ?_
    obtain ⟨rfl, rfl⟩ := Prod.mk.inj (Option.some.inj hB)
    exact gw_iret rfl rfl rfl dX6_placeIn_31
  · rw [if_neg hcnd] at hB
    refine gw_aload_n 0 rfl dX6_placeIn_12 ?_
    refine gw_iload_n 1 rfl dX6_placeIn_13 ?_
    refine gw_iload_n 3 rfl dX6_placeIn_14 ?_
    obtain ⟨u0, hu6, hB⟩ := gB1_some hB
    obtain ⟨v5, s4, hv5, hB⟩ := gB2_some hB
    refine gw_callV (y := yX6_keyAt) (lw_V q2804 q2806 qs60 q143 q2807) hdV_X6_keyAt gcl9 hu6 (As := [vI l1, vI l3]) (rest := []) (m_X6_keyAt _ _ _ _ _ _ hv5) (Nat.le_of_ble_eq_true rfl) (Nat.le_of_ble_eq_true rfl) rfl (Nat.le_of_ble_eq_true rfl) dX6_placeIn_15 (gCont_i ?_)
    refine gw_iload_n 2 rfl dX6_placeIn_18 ?_
    refine gw_icmp_ne (tgt := 24) dX6_placeIn_19 (by decide) (fun hcnd => ?_) (fun hcnd => ?_)
    · rw [if_neg hcnd] at hB
      refine gw_iinc (w := (1 : Int32)) (L' := [(3, vI (l3 + (1 : Int32))), (0, vR l0), (1, vI l1), (2, vI l2)]) 3 rfl (by decide) (Nat.le_of_ble_eq_true rfl) rfl dX6_placeIn_24 ?_
      refine gw_goto (tgt := 2) dX6_placeIn_27 (by decide) ?_
      exact gw_sub [1, 2, 3, 0] rfl (hk2 _ _ _ _ _ hB)
    · rw [if_pos hcnd] at hB
      refine gw_iload_n 3 rfl dX6_placeIn_22 ?_
      obtain ⟨rfl, rfl⟩ := Prod.mk.inj (Option.some.inj hB)
      exact gw_iret rfl rfl rfl dX6_placeIn_23
theorem w_X6_placeIn_2 {E : gE} {F z0 n0 : Nat} {r : Int32} {s' : gS}   : ∀ (n : Nat) (l0 : Option Nat) (l1 : Int32) (l2 : Int32) (l3 : Int32)  (s : gS), f_X6_placeIn_2 (gk E) F  n l0 l1 l2 l3 s = some (r, s') → W_X6_placeIn E z0 n0 r s' 2 [(0, vR l0), (1, vI l1), (2, vI l2), (3, vI l3)] [] s := by
  intro n
  induction n with
  | zero => intro l0 l1 l2 l3 s hB; cases hB
  | succ n ih => intro l0 l1 l2 l3 s hB; exact w_X6_placeIn_2b ih l0 l1 l2 l3 s hB
noncomputable def f_X6_placeIn_0 (κ : gK) (F : Nat)  (l0 : Option Nat) (l1 : Int32) (l2 : Int32) (s : gS) : Option (Int32 × gS) :=
  f_X6_placeIn_2 κ F  F l0 l1 l2 (0 : Int32) s
set_option maxHeartbeats 4000000 in
theorem w_X6_placeIn_0 {E : gE} {F z0 n0 : Nat} {r : Int32} {s' : gS}   : ∀ (l0 : Option Nat) (l1 : Int32) (l2 : Int32)  (s : gS), f_X6_placeIn_0 (gk E) F  l0 l1 l2 s = some (r, s') → W_X6_placeIn E z0 n0 r s' 0 [(0, vR l0), (1, vI l1), (2, vI l2)] [] s := by
  intro l0 l1 l2 s hB
  unfold f_X6_placeIn_0 at hB
  refine gw_iconst (v := (0 : Int32)) (by decide) dX6_placeIn_0 ?_
  refine gw_istore_n (L' := [(3, vI (0 : Int32)), (0, vR l0), (1, vI l1), (2, vI l2)]) (Nat.le_of_ble_eq_true rfl) rfl dX6_placeIn_1 ?_
  exact gw_sub [1, 2, 3, 0] rfl (w_X6_placeIn_2  F _ _ _ _ _ hB)
noncomputable def f_X6_placeIn (κ : gK) (F : Nat) (a0 : Option Nat) (a1 : Int32) (a2 : Int32) (s : gS) : Option (Int32 × gS) := f_X6_placeIn_0 κ F a0 a1 a2 s
theorem m_X6_placeIn {E : gE} {F : Nat} (a0 : Option Nat) (a1 : Int32) (a2 : Int32) (s : gS) (r : Int32) (s' : gS) (h : f_X6_placeIn (gk E) F a0 a1 a2 s = some (r, s')) : gCT E 3 yX6_placeIn (ws_ yX6_placeIn cX6_placeIn 4 (some FieldType.int)) [vR a0, vI a1, vI a2] s (.inl (some (vI r))) s' := by
  refine gCT_of2 (fun h => absurd h (by decide)) (plainFor_of_name (by decide)) (Nat.le_of_ble_eq_true rfl) ?_
  exact gw_sub [0, 1, 2] rfl (w_X6_placeIn_0 _ _ _ _ h)
def dkwX6_bedsOf_5 : List UInt8 := [21, 6, 96, 21, 7, 153, 0, 7, 4, 167, 0, 4, 3, 96, 172]
abbrev dktX6_bedsOf_5 : List UInt8 := dkwX6_bedsOf_5 ++ []
def dkwX6_bedsOf_4 : List UInt8 := [21, 7, 153, 0, 20, 42, 29, 5, 182, 0, 53, 16, 6, 160, 0, 9, 17, 252, 24, 167, 0, 18, 28]
abbrev dktX6_bedsOf_4 : List UInt8 := dkwX6_bedsOf_4 ++ dktX6_bedsOf_5
def dkwX6_bedsOf_3 : List UInt8 := [182, 0, 84, 156, 0, 18, 42, 21, 5, 5, 182, 0, 53, 7, 160, 0, 7, 4, 167, 0, 4, 3, 54, 7]
abbrev dktX6_bedsOf_3 : List UInt8 := dkwX6_bedsOf_3 ++ dktX6_bedsOf_4
def dkwX6_bedsOf_2 : List UInt8 := [42, 21, 5, 7, 182, 0, 53, 4, 160, 0, 7, 3, 167, 0, 4, 4, 54, 6, 42, 21, 5, 27]
abbrev dktX6_bedsOf_2 : List UInt8 := dkwX6_bedsOf_2 ++ dktX6_bedsOf_3
def dkwX6_bedsOf_1 : List UInt8 := [27, 182, 0, 81, 54, 4, 21, 4, 156, 0, 7, 28, 4, 96, 172, 42, 29, 21, 4, 182, 0, 75, 54, 5]
abbrev dktX6_bedsOf_1 : List UInt8 := dkwX6_bedsOf_1 ++ dktX6_bedsOf_2
def dkwX6_bedsOf_0 : List UInt8 := [42, 180, 0, 7, 17, 1, 211, 46, 156, 0, 7, 4, 167, 0, 4, 3, 61, 42, 182, 0, 93, 62, 42, 29]
abbrev dktX6_bedsOf_0 : List UInt8 := dkwX6_bedsOf_0 ++ dktX6_bedsOf_1
theorem dksX6_bedsOf_0 : cX6_bedsOf.data.toList.drop 0 = dktX6_bedsOf_0 := by decide +kernel
theorem dksX6_bedsOf_1 : cX6_bedsOf.data.toList.drop 24 = dktX6_bedsOf_1 := dk_seg dksX6_bedsOf_0 24 rfl rfl
theorem dksX6_bedsOf_2 : cX6_bedsOf.data.toList.drop 48 = dktX6_bedsOf_2 := dk_seg dksX6_bedsOf_1 24 rfl rfl
theorem dksX6_bedsOf_3 : cX6_bedsOf.data.toList.drop 70 = dktX6_bedsOf_3 := dk_seg dksX6_bedsOf_2 22 rfl rfl
theorem dksX6_bedsOf_4 : cX6_bedsOf.data.toList.drop 94 = dktX6_bedsOf_4 := dk_seg dksX6_bedsOf_3 24 rfl rfl
theorem dksX6_bedsOf_5 : cX6_bedsOf.data.toList.drop 117 = dktX6_bedsOf_5 := dk_seg dksX6_bedsOf_4 23 rfl rfl
theorem dX6_bedsOf_0 : decode cX6_bedsOf 0 = .ok (.aload_n 0, 1) := dk_42 (dk_at dksX6_bedsOf_0 0 rfl rfl)
theorem dX6_bedsOf_1 : decode cX6_bedsOf 1 = .ok (.getfield 7, 3) := dk_180 0 7 (dk_at dksX6_bedsOf_0 1 rfl rfl)
theorem dX6_bedsOf_4 : decode cX6_bedsOf 4 = .ok (.sipush 467, 3) := dk_17 1 211 (dk_at dksX6_bedsOf_0 4 rfl rfl)
theorem dX6_bedsOf_7 : decode cX6_bedsOf 7 = .ok (.iaload, 1) := dk_46 (dk_at dksX6_bedsOf_0 7 rfl rfl)
theorem dX6_bedsOf_8 : decode cX6_bedsOf 8 = .ok (.ifCond .ge 7, 3) := dk_156 0 7 (dk_at dksX6_bedsOf_0 8 rfl rfl)
theorem dX6_bedsOf_11 : decode cX6_bedsOf 11 = .ok (.iconst 1, 1) := dk_4 (dk_at dksX6_bedsOf_0 11 rfl rfl)
theorem dX6_bedsOf_12 : decode cX6_bedsOf 12 = .ok (.goto 4, 3) := dk_167 0 4 (dk_at dksX6_bedsOf_0 12 rfl rfl)
theorem dX6_bedsOf_15 : decode cX6_bedsOf 15 = .ok (.iconst 0, 1) := dk_3 (dk_at dksX6_bedsOf_0 15 rfl rfl)
theorem dX6_bedsOf_16 : decode cX6_bedsOf 16 = .ok (.istore_n 2, 1) := dk_61 (dk_at dksX6_bedsOf_0 16 rfl rfl)
theorem dX6_bedsOf_17 : decode cX6_bedsOf 17 = .ok (.aload_n 0, 1) := dk_42 (dk_at dksX6_bedsOf_0 17 rfl rfl)
theorem dX6_bedsOf_18 : decode cX6_bedsOf 18 = .ok (.invokevirtual 93, 3) := dk_182 0 93 (dk_at dksX6_bedsOf_0 18 rfl rfl)
theorem dX6_bedsOf_21 : decode cX6_bedsOf 21 = .ok (.istore_n 3, 1) := dk_62 (dk_at dksX6_bedsOf_0 21 rfl rfl)
theorem dX6_bedsOf_22 : decode cX6_bedsOf 22 = .ok (.aload_n 0, 1) := dk_42 (dk_at dksX6_bedsOf_0 22 rfl rfl)
theorem dX6_bedsOf_23 : decode cX6_bedsOf 23 = .ok (.iload_n 3, 1) := dk_29 (dk_at dksX6_bedsOf_0 23 rfl rfl)
theorem dX6_bedsOf_24 : decode cX6_bedsOf 24 = .ok (.iload_n 1, 1) := dk_27 (dk_at dksX6_bedsOf_1 0 rfl rfl)
theorem dX6_bedsOf_25 : decode cX6_bedsOf 25 = .ok (.invokevirtual 81, 3) := dk_182 0 81 (dk_at dksX6_bedsOf_1 1 rfl rfl)
theorem dX6_bedsOf_28 : decode cX6_bedsOf 28 = .ok (.istore 4, 2) := dk_54 4 (dk_at dksX6_bedsOf_1 4 rfl rfl)
theorem dX6_bedsOf_30 : decode cX6_bedsOf 30 = .ok (.iload 4, 2) := dk_21 4 (dk_at dksX6_bedsOf_1 6 rfl rfl)
theorem dX6_bedsOf_32 : decode cX6_bedsOf 32 = .ok (.ifCond .ge 7, 3) := dk_156 0 7 (dk_at dksX6_bedsOf_1 8 rfl rfl)
theorem dX6_bedsOf_35 : decode cX6_bedsOf 35 = .ok (.iload_n 2, 1) := dk_28 (dk_at dksX6_bedsOf_1 11 rfl rfl)
theorem dX6_bedsOf_36 : decode cX6_bedsOf 36 = .ok (.iconst 1, 1) := dk_4 (dk_at dksX6_bedsOf_1 12 rfl rfl)
theorem dX6_bedsOf_37 : decode cX6_bedsOf 37 = .ok (.iadd, 1) := dk_96 (dk_at dksX6_bedsOf_1 13 rfl rfl)
theorem dX6_bedsOf_38 : decode cX6_bedsOf 38 = .ok (.ireturn, 1) := dk_172 (dk_at dksX6_bedsOf_1 14 rfl rfl)
theorem dX6_bedsOf_39 : decode cX6_bedsOf 39 = .ok (.aload_n 0, 1) := dk_42 (dk_at dksX6_bedsOf_1 15 rfl rfl)
theorem dX6_bedsOf_40 : decode cX6_bedsOf 40 = .ok (.iload_n 3, 1) := dk_29 (dk_at dksX6_bedsOf_1 16 rfl rfl)
theorem dX6_bedsOf_41 : decode cX6_bedsOf 41 = .ok (.iload 4, 2) := dk_21 4 (dk_at dksX6_bedsOf_1 17 rfl rfl)
theorem dX6_bedsOf_43 : decode cX6_bedsOf 43 = .ok (.invokevirtual 75, 3) := dk_182 0 75 (dk_at dksX6_bedsOf_1 19 rfl rfl)
theorem dX6_bedsOf_46 : decode cX6_bedsOf 46 = .ok (.istore 5, 2) := dk_54 5 (dk_at dksX6_bedsOf_1 22 rfl rfl)
theorem dX6_bedsOf_48 : decode cX6_bedsOf 48 = .ok (.aload_n 0, 1) := dk_42 (dk_at dksX6_bedsOf_2 0 rfl rfl)
theorem dX6_bedsOf_49 : decode cX6_bedsOf 49 = .ok (.iload 5, 2) := dk_21 5 (dk_at dksX6_bedsOf_2 1 rfl rfl)
theorem dX6_bedsOf_51 : decode cX6_bedsOf 51 = .ok (.iconst 4, 1) := dk_7 (dk_at dksX6_bedsOf_2 3 rfl rfl)
theorem dX6_bedsOf_52 : decode cX6_bedsOf 52 = .ok (.invokevirtual 53, 3) := dk_182 0 53 (dk_at dksX6_bedsOf_2 4 rfl rfl)
theorem dX6_bedsOf_55 : decode cX6_bedsOf 55 = .ok (.iconst 1, 1) := dk_4 (dk_at dksX6_bedsOf_2 7 rfl rfl)
theorem dX6_bedsOf_56 : decode cX6_bedsOf 56 = .ok (.if_icmp .ne 7, 3) := dk_160 0 7 (dk_at dksX6_bedsOf_2 8 rfl rfl)
theorem dX6_bedsOf_59 : decode cX6_bedsOf 59 = .ok (.iconst 0, 1) := dk_3 (dk_at dksX6_bedsOf_2 11 rfl rfl)
theorem dX6_bedsOf_60 : decode cX6_bedsOf 60 = .ok (.goto 4, 3) := dk_167 0 4 (dk_at dksX6_bedsOf_2 12 rfl rfl)
theorem dX6_bedsOf_63 : decode cX6_bedsOf 63 = .ok (.iconst 1, 1) := dk_4 (dk_at dksX6_bedsOf_2 15 rfl rfl)
theorem dX6_bedsOf_64 : decode cX6_bedsOf 64 = .ok (.istore 6, 2) := dk_54 6 (dk_at dksX6_bedsOf_2 16 rfl rfl)
theorem dX6_bedsOf_66 : decode cX6_bedsOf 66 = .ok (.aload_n 0, 1) := dk_42 (dk_at dksX6_bedsOf_2 18 rfl rfl)
theorem dX6_bedsOf_67 : decode cX6_bedsOf 67 = .ok (.iload 5, 2) := dk_21 5 (dk_at dksX6_bedsOf_2 19 rfl rfl)
theorem dX6_bedsOf_69 : decode cX6_bedsOf 69 = .ok (.iload_n 1, 1) := dk_27 (dk_at dksX6_bedsOf_2 21 rfl rfl)
theorem dX6_bedsOf_70 : decode cX6_bedsOf 70 = .ok (.invokevirtual 84, 3) := dk_182 0 84 (dk_at dksX6_bedsOf_3 0 rfl rfl)
theorem dX6_bedsOf_73 : decode cX6_bedsOf 73 = .ok (.ifCond .ge 18, 3) := dk_156 0 18 (dk_at dksX6_bedsOf_3 3 rfl rfl)
theorem dX6_bedsOf_76 : decode cX6_bedsOf 76 = .ok (.aload_n 0, 1) := dk_42 (dk_at dksX6_bedsOf_3 6 rfl rfl)
theorem dX6_bedsOf_77 : decode cX6_bedsOf 77 = .ok (.iload 5, 2) := dk_21 5 (dk_at dksX6_bedsOf_3 7 rfl rfl)
theorem dX6_bedsOf_79 : decode cX6_bedsOf 79 = .ok (.iconst 2, 1) := dk_5 (dk_at dksX6_bedsOf_3 9 rfl rfl)
theorem dX6_bedsOf_80 : decode cX6_bedsOf 80 = .ok (.invokevirtual 53, 3) := dk_182 0 53 (dk_at dksX6_bedsOf_3 10 rfl rfl)
theorem dX6_bedsOf_83 : decode cX6_bedsOf 83 = .ok (.iconst 4, 1) := dk_7 (dk_at dksX6_bedsOf_3 13 rfl rfl)
theorem dX6_bedsOf_84 : decode cX6_bedsOf 84 = .ok (.if_icmp .ne 7, 3) := dk_160 0 7 (dk_at dksX6_bedsOf_3 14 rfl rfl)
theorem dX6_bedsOf_87 : decode cX6_bedsOf 87 = .ok (.iconst 1, 1) := dk_4 (dk_at dksX6_bedsOf_3 17 rfl rfl)
theorem dX6_bedsOf_88 : decode cX6_bedsOf 88 = .ok (.goto 4, 3) := dk_167 0 4 (dk_at dksX6_bedsOf_3 18 rfl rfl)
theorem dX6_bedsOf_91 : decode cX6_bedsOf 91 = .ok (.iconst 0, 1) := dk_3 (dk_at dksX6_bedsOf_3 21 rfl rfl)
theorem dX6_bedsOf_92 : decode cX6_bedsOf 92 = .ok (.istore 7, 2) := dk_54 7 (dk_at dksX6_bedsOf_3 22 rfl rfl)
theorem dX6_bedsOf_94 : decode cX6_bedsOf 94 = .ok (.iload 7, 2) := dk_21 7 (dk_at dksX6_bedsOf_4 0 rfl rfl)
theorem dX6_bedsOf_96 : decode cX6_bedsOf 96 = .ok (.ifCond .eq 20, 3) := dk_153 0 20 (dk_at dksX6_bedsOf_4 2 rfl rfl)
theorem dX6_bedsOf_99 : decode cX6_bedsOf 99 = .ok (.aload_n 0, 1) := dk_42 (dk_at dksX6_bedsOf_4 5 rfl rfl)
theorem dX6_bedsOf_100 : decode cX6_bedsOf 100 = .ok (.iload_n 3, 1) := dk_29 (dk_at dksX6_bedsOf_4 6 rfl rfl)
theorem dX6_bedsOf_101 : decode cX6_bedsOf 101 = .ok (.iconst 2, 1) := dk_5 (dk_at dksX6_bedsOf_4 7 rfl rfl)
theorem dX6_bedsOf_102 : decode cX6_bedsOf 102 = .ok (.invokevirtual 53, 3) := dk_182 0 53 (dk_at dksX6_bedsOf_4 8 rfl rfl)
theorem dX6_bedsOf_105 : decode cX6_bedsOf 105 = .ok (.bipush 6, 2) := dk_16 6 (dk_at dksX6_bedsOf_4 11 rfl rfl)
theorem dX6_bedsOf_107 : decode cX6_bedsOf 107 = .ok (.if_icmp .ne 9, 3) := dk_160 0 9 (dk_at dksX6_bedsOf_4 13 rfl rfl)
theorem dX6_bedsOf_110 : decode cX6_bedsOf 110 = .ok (.sipush (-1000), 3) := dk_17 252 24 (dk_at dksX6_bedsOf_4 16 rfl rfl)
theorem dX6_bedsOf_113 : decode cX6_bedsOf 113 = .ok (.goto 18, 3) := dk_167 0 18 (dk_at dksX6_bedsOf_4 19 rfl rfl)
theorem dX6_bedsOf_116 : decode cX6_bedsOf 116 = .ok (.iload_n 2, 1) := dk_28 (dk_at dksX6_bedsOf_4 22 rfl rfl)
theorem dX6_bedsOf_117 : decode cX6_bedsOf 117 = .ok (.iload 6, 2) := dk_21 6 (dk_at dksX6_bedsOf_5 0 rfl rfl)
theorem dX6_bedsOf_119 : decode cX6_bedsOf 119 = .ok (.iadd, 1) := dk_96 (dk_at dksX6_bedsOf_5 2 rfl rfl)
theorem dX6_bedsOf_120 : decode cX6_bedsOf 120 = .ok (.iload 7, 2) := dk_21 7 (dk_at dksX6_bedsOf_5 3 rfl rfl)
theorem dX6_bedsOf_122 : decode cX6_bedsOf 122 = .ok (.ifCond .eq 7, 3) := dk_153 0 7 (dk_at dksX6_bedsOf_5 5 rfl rfl)
theorem dX6_bedsOf_125 : decode cX6_bedsOf 125 = .ok (.iconst 1, 1) := dk_4 (dk_at dksX6_bedsOf_5 8 rfl rfl)
theorem dX6_bedsOf_126 : decode cX6_bedsOf 126 = .ok (.goto 4, 3) := dk_167 0 4 (dk_at dksX6_bedsOf_5 9 rfl rfl)
theorem dX6_bedsOf_129 : decode cX6_bedsOf 129 = .ok (.iconst 0, 1) := dk_3 (dk_at dksX6_bedsOf_5 12 rfl rfl)
theorem dX6_bedsOf_130 : decode cX6_bedsOf 130 = .ok (.iadd, 1) := dk_96 (dk_at dksX6_bedsOf_5 13 rfl rfl)
theorem dX6_bedsOf_131 : decode cX6_bedsOf 131 = .ok (.ireturn, 1) := dk_172 (dk_at dksX6_bedsOf_5 14 rfl rfl)
/-! PageGardenModel.bedsOf(I)I -/
abbrev M_X6_bedsOf (z0 n0 : Nat) (s' : gS) : gM := (RX6, cX6_bedsOf, 8, (some FieldType.int), "bedsOf", [], 4, z0, n0, s'.2.1, s'.2.2)
abbrev W_X6_bedsOf (E : gE) (z0 n0 : Nat) (r : Int32) (s' : gS) (pc : Nat) (L : List (Nat × gV)) (st : List gV) (s : gS) : Prop := gW E (M_X6_bedsOf z0 n0 s') (gQm E (M_X6_bedsOf z0 n0 s') (.inl (some (vI r))) s') pc L st s
noncomputable def f_X6_bedsOf_131 (κ : gK) (F : Nat)  (t0 : Int32) (s : gS) : Option (Int32 × gS) :=
  some (t0, s)
set_option maxHeartbeats 4000000 in
theorem w_X6_bedsOf_131 {E : gE} {F z0 n0 : Nat} {r : Int32} {s' : gS}   : ∀  (t0 : Int32) (s : gS), f_X6_bedsOf_131 (gk E) F  t0 s = some (r, s') → W_X6_bedsOf E z0 n0 r s' 131 [] [vI t0] s := by
  intro t0 s hB
  unfold f_X6_bedsOf_131 at hB
  obtain ⟨rfl, rfl⟩ := Prod.mk.inj (Option.some.inj hB)
  exact gw_iret rfl rfl rfl dX6_bedsOf_131
noncomputable def f_X6_bedsOf_130 (κ : gK) (F : Nat)  (t0 : Int32) (t1 : Int32) (s : gS) : Option (Int32 × gS) :=
  f_X6_bedsOf_131 κ F  (t0 + t1) s
set_option maxHeartbeats 4000000 in
theorem w_X6_bedsOf_130 {E : gE} {F z0 n0 : Nat} {r : Int32} {s' : gS}   : ∀  (t0 : Int32) (t1 : Int32) (s : gS), f_X6_bedsOf_130 (gk E) F  t0 t1 s = some (r, s') → W_X6_bedsOf E z0 n0 r s' 130 [] [vI t1, vI t0] s := by
  intro t0 t1 s hB
  unfold f_X6_bedsOf_130 at hB
  refine gw_iadd dX6_bedsOf_130 ?_
  exact gw_sub [] rfl (w_X6_bedsOf_131  _ _ hB)
noncomputable def f_X6_bedsOf_116 (κ : gK) (F : Nat)  (l2 : Int32) (l6 : Int32) (l7 : Int32) (s : gS) : Option (Int32 × gS) :=
  if l7 = 0 then
    f_X6_bedsOf_130 κ F  (l2 + l6) (0 : Int32) s
  else
    f_X6_bedsOf_130 κ F  (l2 + l6) (1 : Int32) s
set_option maxHeartbeats 4000000 in
theorem w_X6_bedsOf_116 {E : gE} {F z0 n0 : Nat} {r : Int32} {s' : gS}   : ∀ (l2 : Int32) (l6 : Int32) (l7 : Int32)  (s : gS), f_X6_bedsOf_116 (gk E) F  l2 l6 l7 s = some (r, s') → W_X6_bedsOf E z0 n0 r s' 116 [(2, vI l2), (6, vI l6), (7, vI l7)] [] s := by
  intro l2 l6 l7 s hB
  unfold f_X6_bedsOf_116 at hB
  refine gw_iload_n 0 rfl dX6_bedsOf_116 ?_
  refine gw_iload 1 rfl dX6_bedsOf_117 ?_
  refine gw_iadd dX6_bedsOf_119 ?_
  refine gw_iload 2 rfl dX6_bedsOf_120 ?_
  refine gw_if_eq (tgt := 129) dX6_bedsOf_122 (by decide) (fun hcnd => ?_) (fun hcnd => ?_)
  · rw [if_pos hcnd] at hB
    refine gw_iconst (v := (0 : Int32)) (by decide) dX6_bedsOf_129 ?_
    exact gw_sub [] rfl (w_X6_bedsOf_130  _ _ _ hB)
  · rw [if_neg hcnd] at hB
    refine gw_iconst (v := (1 : Int32)) (by decide) dX6_bedsOf_125 ?_
    refine gw_goto (tgt := 130) dX6_bedsOf_126 (by decide) ?_
    exact gw_sub [] rfl (w_X6_bedsOf_130  _ _ _ hB)
noncomputable def f_X6_bedsOf_92 (κ : gK) (F : Nat)  (l0 : Option Nat) (l2 : Int32) (l3 : Int32) (l6 : Int32) (t0 : Int32) (s : gS) : Option (Int32 × gS) :=
  if t0 = 0 then
    f_X6_bedsOf_116 κ F  l2 l6 t0 s
  else
    gB1 (gck s l0 9) fun _ =>
    gB2 (f_X6_of κ F l0 l3 (2 : Int32) s) fun v2 s1 =>
    if v2 = (6 : Int32) then
      f_X6_bedsOf_131 κ F  (-1000 : Int32) s1
    else
      f_X6_bedsOf_116 κ F  l2 l6 t0 s1
set_option maxHeartbeats 4000000 in
theorem w_X6_bedsOf_92 {E : gE} {F z0 n0 : Nat} {r : Int32} {s' : gS}   : ∀ (l0 : Option Nat) (l2 : Int32) (l3 : Int32) (l6 : Int32) (t0 : Int32) (s : gS), f_X6_bedsOf_92 (gk E) F  l0 l2 l3 l6 t0 s = some (r, s') → W_X6_bedsOf E z0 n0 r s' 92 [(0, vR l0), (2, vI l2), (3, vI l3), (6, vI l6)] [vI t0] s := by
  intro l0 l2 l3 l6 t0 s hB
  unfold f_X6_bedsOf_92 at hB
  refine gw_istore (L' := [(7, vI t0), (0, vR l0), (2, vI l2), (3, vI l3), (6, vI l6)]) (Nat.le_of_ble_eq_true rfl) rfl dX6_bedsOf_92 ?_
  refine gw_iload 0 rfl dX6_bedsOf_94 ?_
  refine gw_if_eq (tgt := 116) dX6_bedsOf_96 (by decide) (fun hcnd => ?_) (fun hcnd => ?_)
  · rw [if_pos hcnd] at hB
    exact gw_sub [2, 4, 0] rfl (w_X6_bedsOf_116  _ _ _ _ hB)
  · rw [if_neg hcnd] at hB
    refine gw_aload_n 1 rfl dX6_bedsOf_99 ?_
    refine gw_iload_n 3 rfl dX6_bedsOf_100 ?_
    refine gw_iconst (v := (2 : Int32)) (by decide) dX6_bedsOf_101 ?_
    obtain ⟨u0, hu3, hB⟩ := gB1_some hB
    obtain ⟨v2, s1, hv2, hB⟩ := gB2_some hB
    refine gw_callV (y := yX6_of) (lw_V q2796 q2798 qs58 q143 q2799) hdV_X6_of gcl9 hu3 (As := [vI l3, vI (2 : Int32)]) (rest := []) (m_X6_of _ _ _ _ _ _ hv2) (Nat.le_of_ble_eq_true rfl) (Nat.le_of_ble_eq_true rfl) rfl (Nat.le_of_ble_eq_true rfl) dX6_bedsOf_102 (gCont_i ?_)
    refine gw_bipush (v := (6 : Int32)) (by decide) dX6_bedsOf_105 ?_
    refine gw_icmp_ne (tgt := 116) dX6_bedsOf_107 (by decide) (fun hcnd => ?_) (fun hcnd => ?_)
    · rw [if_neg hcnd] at hB
      exact gw_sub [2, 4, 0] rfl (w_X6_bedsOf_116  _ _ _ _ hB)
    · rw [if_pos hcnd] at hB
      refine gw_sipush (v := (-1000 : Int32)) (by decide) dX6_bedsOf_110 ?_
      refine gw_goto (tgt := 131) dX6_bedsOf_113 (by decide) ?_
      exact gw_sub [] rfl (w_X6_bedsOf_131  _ _ hB)
noncomputable def f_X6_bedsOf_91 (κ : gK) (F : Nat)  (l0 : Option Nat) (l2 : Int32) (l3 : Int32) (l6 : Int32) (s : gS) : Option (Int32 × gS) :=
  f_X6_bedsOf_92 κ F  l0 l2 l3 l6 (0 : Int32) s
set_option maxHeartbeats 4000000 in
theorem w_X6_bedsOf_91 {E : gE} {F z0 n0 : Nat} {r : Int32} {s' : gS}   : ∀ (l0 : Option Nat) (l2 : Int32) (l3 : Int32) (l6 : Int32)  (s : gS), f_X6_bedsOf_91 (gk E) F  l0 l2 l3 l6 s = some (r, s') → W_X6_bedsOf E z0 n0 r s' 91 [(0, vR l0), (2, vI l2), (3, vI l3), (6, vI l6)] [] s := by
  intro l0 l2 l3 l6 s hB
  unfold f_X6_bedsOf_91 at hB
  refine gw_iconst (v := (0 : Int32)) (by decide) dX6_bedsOf_91 ?_
  exact gw_sub [0, 1, 2, 3] rfl (w_X6_bedsOf_92  _ _ _ _ _ _ hB)
noncomputable def f_X6_bedsOf_64 (κ : gK) (F : Nat)  (l0 : Option Nat) (l1 : Int32) (l2 : Int32) (l3 : Int32) (l5 : Int32) (t0 : Int32) (s : gS) : Option (Int32 × gS) :=
  gB1 (gck s l0 9) fun _ =>
  gB2 (f_X6_placeIn κ F l0 l5 l1 s) fun v2 s1 =>
  if 0 ≤ v2 then
    f_X6_bedsOf_91 κ F  l0 l2 l3 t0 s1
  else
    gB1 (gck s1 l0 9) fun _ =>
    gB2 (f_X6_of κ F l0 l5 (2 : Int32) s1) fun v5 s4 =>
    if v5 = (4 : Int32) then
      f_X6_bedsOf_92 κ F  l0 l2 l3 t0 (1 : Int32) s4
    else
      f_X6_bedsOf_91 κ F  l0 l2 l3 t0 s4
set_option maxHeartbeats 4000000 in
theorem w_X6_bedsOf_64 {E : gE} {F z0 n0 : Nat} {r : Int32} {s' : gS}   : ∀ (l0 : Option Nat) (l1 : Int32) (l2 : Int32) (l3 : Int32) (l5 : Int32) (t0 : Int32) (s : gS), f_X6_bedsOf_64 (gk E) F  l0 l1 l2 l3 l5 t0 s = some (r, s') → W_X6_bedsOf E z0 n0 r s' 64 [(0, vR l0), (1, vI l1), (2, vI l2), (3, vI l3), (5, vI l5)] [vI t0] s := by
  intro l0 l1 l2 l3 l5 t0 s hB
  unfold f_X6_bedsOf_64 at hB
  refine gw_istore (L' := [(6, vI t0), (0, vR l0), (1, vI l1), (2, vI l2), (3, vI l3), (5, vI l5)]) (Nat.le_of_ble_eq_true rfl) rfl dX6_bedsOf_64 ?_
  refine gw_aload_n 1 rfl dX6_bedsOf_66 ?_
  refine gw_iload 5 rfl dX6_bedsOf_67 ?_
  refine gw_iload_n 2 rfl dX6_bedsOf_69 ?_
  obtain ⟨u0, hu3, hB⟩ := gB1_some hB
  obtain ⟨v2, s1, hv2, hB⟩ := gB2_some hB
  refine gw_callV (y := yX6_placeIn) (lw_V q2808 q2810 qs61 q143 q2811) hdV_X6_placeIn gcl9 hu3 (As := [vI l5, vI l1]) (rest := []) (m_X6_placeIn _ _ _ _ _ _ hv2) (Nat.le_of_ble_eq_true rfl) (Nat.le_of_ble_eq_true rfl) rfl (Nat.le_of_ble_eq_true rfl) dX6_bedsOf_70 (gCont_i ?_)
  refine gw_if_ge (tgt := 91) dX6_bedsOf_73 (by decide) (fun hcnd => ?_) (fun hcnd => ?_)
  · rw [if_pos hcnd] at hB
    exact gw_sub [1, 3, 4, 0] rfl (w_X6_bedsOf_91  _ _ _ _ _ hB)
  · rw [if_neg hcnd] at hB
    refine gw_aload_n 1 rfl dX6_bedsOf_76 ?_
    refine gw_iload 5 rfl dX6_bedsOf_77 ?_
    refine gw_iconst (v := (2 : Int32)) (by decide) dX6_bedsOf_79 ?_
    obtain ⟨u0, hu6, hB⟩ := gB1_some hB
    obtain ⟨v5, s4, hv5, hB⟩ := gB2_some hB
    refine gw_callV (y := yX6_of) (lw_V q2796 q2798 qs58 q143 q2799) hdV_X6_of gcl9 hu6 (As := [vI l5, vI (2 : Int32)]) (rest := []) (m_X6_of _ _ _ _ _ _ hv5) (Nat.le_of_ble_eq_true rfl) (Nat.le_of_ble_eq_true rfl) rfl (Nat.le_of_ble_eq_true rfl) dX6_bedsOf_80 (gCont_i ?_)
    refine gw_iconst (v := (4 : Int32)) (by decide) dX6_bedsOf_83 ?_
    refine gw_icmp_ne (tgt := 91) dX6_bedsOf_84 (by decide) (fun hcnd => ?_) (fun hcnd => ?_)
    · rw [if_neg hcnd] at hB
      exact gw_sub [1, 3, 4, 0] rfl (w_X6_bedsOf_91  _ _ _ _ _ hB)
    · rw [if_pos hcnd] at hB
      refine gw_iconst (v := (1 : Int32)) (by decide) dX6_bedsOf_87 ?_
      refine gw_goto (tgt := 92) dX6_bedsOf_88 (by decide) ?_
      exact gw_sub [1, 3, 4, 0] rfl (w_X6_bedsOf_92  _ _ _ _ _ _ hB)
noncomputable def f_X6_bedsOf_16 (κ : gK) (F : Nat)  (l0 : Option Nat) (l1 : Int32) (t0 : Int32) (s : gS) : Option (Int32 × gS) :=
  gB1 (gck s l0 9) fun _ =>
  gB2 (f_X6_drafts κ F l0  s) fun v2 s1 =>
  gB1 (gck s1 l0 9) fun _ =>
  gB2 (f_X6_placeFor κ F l0 v2 l1 s1) fun v5 s4 =>
  if 0 ≤ v5 then
    gB1 (gck s4 l0 9) fun _ =>
    gB2 (f_X6_leafAt κ F l0 v2 v5 s4) fun v8 s7 =>
    gB1 (gck s7 l0 9) fun _ =>
    gB2 (f_X6_of κ F l0 v8 (4 : Int32) s7) fun v11 s10 =>
    if v11 = (1 : Int32) then
      f_X6_bedsOf_64 κ F  l0 l1 t0 v2 v8 (0 : Int32) s10
    else
      f_X6_bedsOf_64 κ F  l0 l1 t0 v2 v8 (1 : Int32) s10
  else
    some ((t0 + (1 : Int32)), s4)
set_option maxHeartbeats 4000000 in
theorem w_X6_bedsOf_16 {E : gE} {F z0 n0 : Nat} {r : Int32} {s' : gS}   : ∀ (l0 : Option Nat) (l1 : Int32) (t0 : Int32) (s : gS), f_X6_bedsOf_16 (gk E) F  l0 l1 t0 s = some (r, s') → W_X6_bedsOf E z0 n0 r s' 16 [(0, vR l0), (1, vI l1)] [vI t0] s := by
  intro l0 l1 t0 s hB
  unfold f_X6_bedsOf_16 at hB
  refine gw_istore_n (L' := [(2, vI t0), (0, vR l0), (1, vI l1)]) (Nat.le_of_ble_eq_true rfl) rfl dX6_bedsOf_16 ?_
  refine gw_aload_n 1 rfl dX6_bedsOf_17 ?_
  obtain ⟨u0, hu3, hB⟩ := gB1_some hB
  obtain ⟨v2, s1, hv2, hB⟩ := gB2_some hB
  refine gw_callV (y := yX6_drafts) (lw_V q2784 q2786 qs55 q143 q2787) hdV_X6_drafts gcl9 hu3 (As := []) (rest := []) (m_X6_drafts _ _ _ _ hv2) (Nat.le_of_ble_eq_true rfl) (Nat.le_of_ble_eq_true rfl) rfl (Nat.le_of_ble_eq_true rfl) dX6_bedsOf_18 (gCont_i ?_)
  refine gw_istore_n (L' := [(3, vI v2), (2, vI t0), (0, vR l0), (1, vI l1)]) (Nat.le_of_ble_eq_true rfl) rfl dX6_bedsOf_21 ?_
  refine gw_aload_n 2 rfl dX6_bedsOf_22 ?_
  refine gw_iload_n 0 rfl dX6_bedsOf_23 ?_
  refine gw_iload_n 3 rfl dX6_bedsOf_24 ?_
  obtain ⟨u0, hu6, hB⟩ := gB1_some hB
  obtain ⟨v5, s4, hv5, hB⟩ := gB2_some hB
  refine gw_callV (y := yX6_placeFor) (lw_V q2792 q2794 qs57 q143 q2795) hdV_X6_placeFor gcl9 hu6 (As := [vI v2, vI l1]) (rest := []) (m_X6_placeFor _ _ _ _ _ _ hv5) (Nat.le_of_ble_eq_true rfl) (Nat.le_of_ble_eq_true rfl) rfl (Nat.le_of_ble_eq_true rfl) dX6_bedsOf_25 (gCont_i ?_)
  refine gw_istore (L' := [(4, vI v5), (3, vI v2), (2, vI t0), (0, vR l0), (1, vI l1)]) (Nat.le_of_ble_eq_true rfl) rfl dX6_bedsOf_28 ?_
  refine gw_iload 0 rfl dX6_bedsOf_30 ?_
  refine gw_if_ge (tgt := 39) dX6_bedsOf_32 (by decide) (fun hcnd => ?_) (fun hcnd => ?_)
  · rw [if_pos hcnd] at hB
    refine gw_aload_n 3 rfl dX6_bedsOf_39 ?_
    refine gw_iload_n 1 rfl dX6_bedsOf_40 ?_
    refine gw_iload 0 rfl dX6_bedsOf_41 ?_
    obtain ⟨u0, hu9, hB⟩ := gB1_some hB
    obtain ⟨v8, s7, hv8, hB⟩ := gB2_some hB
    refine gw_callV (y := yX6_leafAt) (lw_V q2800 q2802 qs59 q143 q2803) hdV_X6_leafAt gcl9 hu9 (As := [vI v2, vI v5]) (rest := []) (m_X6_leafAt _ _ _ _ _ _ hv8) (Nat.le_of_ble_eq_true rfl) (Nat.le_of_ble_eq_true rfl) rfl (Nat.le_of_ble_eq_true rfl) dX6_bedsOf_43 (gCont_i ?_)
    refine gw_istore (L' := [(5, vI v8), (4, vI v5), (3, vI v2), (2, vI t0), (0, vR l0), (1, vI l1)]) (Nat.le_of_ble_eq_true rfl) rfl dX6_bedsOf_46 ?_
    refine gw_aload_n 4 rfl dX6_bedsOf_48 ?_
    refine gw_iload 0 rfl dX6_bedsOf_49 ?_
    refine gw_iconst (v := (4 : Int32)) (by decide) dX6_bedsOf_51 ?_
    obtain ⟨u0, hu12, hB⟩ := gB1_some hB
    obtain ⟨v11, s10, hv11, hB⟩ := gB2_some hB
    refine gw_callV (y := yX6_of) (lw_V q2796 q2798 qs58 q143 q2799) hdV_X6_of gcl9 hu12 (As := [vI v8, vI (4 : Int32)]) (rest := []) (m_X6_of _ _ _ _ _ _ hv11) (Nat.le_of_ble_eq_true rfl) (Nat.le_of_ble_eq_true rfl) rfl (Nat.le_of_ble_eq_true rfl) dX6_bedsOf_52 (gCont_i ?_)
    refine gw_iconst (v := (1 : Int32)) (by decide) dX6_bedsOf_55 ?_
    refine gw_icmp_ne (tgt := 63) dX6_bedsOf_56 (by decide) (fun hcnd => ?_) (fun hcnd => ?_)
    · rw [if_neg hcnd] at hB
      refine gw_iconst (v := (1 : Int32)) (by decide) dX6_bedsOf_63 ?_
      exact gw_sub [4, 5, 3, 2, 0] rfl (w_X6_bedsOf_64  _ _ _ _ _ _ _ hB)
    · rw [if_pos hcnd] at hB
      refine gw_iconst (v := (0 : Int32)) (by decide) dX6_bedsOf_59 ?_
      refine gw_goto (tgt := 64) dX6_bedsOf_60 (by decide) ?_
      exact gw_sub [4, 5, 3, 2, 0] rfl (w_X6_bedsOf_64  _ _ _ _ _ _ _ hB)
  · rw [if_neg hcnd] at hB
    refine gw_iload_n 2 rfl dX6_bedsOf_35 ?_
    refine gw_iconst (v := (1 : Int32)) (by decide) dX6_bedsOf_36 ?_
    refine gw_iadd dX6_bedsOf_37 ?_
    obtain ⟨rfl, rfl⟩ := Prod.mk.inj (Option.some.inj hB)
    exact gw_iret rfl rfl rfl dX6_bedsOf_38
noncomputable def f_X6_bedsOf_0 (κ : gK) (F : Nat)  (l0 : Option Nat) (l1 : Int32) (s : gS) : Option (Int32 × gS) :=
  gB1 (gfR s l0 9 0) fun v1 =>
  gB1 (gaI s v1 0 (467 : Int32)) fun v2 =>
  if 0 ≤ v2 then
    f_X6_bedsOf_16 κ F  l0 l1 (0 : Int32) s
  else
    f_X6_bedsOf_16 κ F  l0 l1 (1 : Int32) s
set_option maxHeartbeats 4000000 in
theorem w_X6_bedsOf_0 {E : gE} {F z0 n0 : Nat} {r : Int32} {s' : gS}   : ∀ (l0 : Option Nat) (l1 : Int32)  (s : gS), f_X6_bedsOf_0 (gk E) F  l0 l1 s = some (r, s') → W_X6_bedsOf E z0 n0 r s' 0 [(0, vR l0), (1, vI l1)] [] s := by
  intro l0 l1 s hB
  unfold f_X6_bedsOf_0 at hB
  refine gw_aload_n 0 rfl dX6_bedsOf_0 ?_
  obtain ⟨v1, hv1, hB⟩ := gB1_some hB
  refine gw_getf (C := RX6) (T := TX6) (N := 13) (k := 0) gcl9 (by decide) in_X6 q2694 (gfR_spec hv1) dX6_bedsOf_1 ?_
  refine gw_sipush (v := (467 : Int32)) (by decide) dX6_bedsOf_4 ?_
  obtain ⟨v2, hv2, hB⟩ := gB1_some hB
  refine gw_iaload hv2 dX6_bedsOf_7 ?_
  refine gw_if_ge (tgt := 15) dX6_bedsOf_8 (by decide) (fun hcnd => ?_) (fun hcnd => ?_)
  · rw [if_pos hcnd] at hB
    refine gw_iconst (v := (0 : Int32)) (by decide) dX6_bedsOf_15 ?_
    exact gw_sub [0, 1] rfl (w_X6_bedsOf_16  _ _ _ _ hB)
  · rw [if_neg hcnd] at hB
    refine gw_iconst (v := (1 : Int32)) (by decide) dX6_bedsOf_11 ?_
    refine gw_goto (tgt := 16) dX6_bedsOf_12 (by decide) ?_
    exact gw_sub [0, 1] rfl (w_X6_bedsOf_16  _ _ _ _ hB)
noncomputable def f_X6_bedsOf (κ : gK) (F : Nat) (a0 : Option Nat) (a1 : Int32) (s : gS) : Option (Int32 × gS) := f_X6_bedsOf_0 κ F a0 a1 s
theorem m_X6_bedsOf {E : gE} {F : Nat} (a0 : Option Nat) (a1 : Int32) (s : gS) (r : Int32) (s' : gS) (h : f_X6_bedsOf (gk E) F a0 a1 s = some (r, s')) : gCT E 4 yX6_bedsOf (ws_ yX6_bedsOf cX6_bedsOf 8 (some FieldType.int)) [vR a0, vI a1] s (.inl (some (vI r))) s' := by
  refine gCT_of2 (fun h => absurd h (by decide)) (plainFor_of_name (by decide)) (Nat.le_of_ble_eq_true rfl) ?_
  exact gw_sub [0, 1] rfl (w_X6_bedsOf_0 _ _ _ h)
def dkwX6_ofReader_0 : List UInt8 := [42, 180, 0, 7, 17, 1, 198, 6, 27, 104, 96, 28, 96, 46, 172]
abbrev dktX6_ofReader_0 : List UInt8 := dkwX6_ofReader_0 ++ []
theorem dksX6_ofReader_0 : cX6_ofReader.data.toList.drop 0 = dktX6_ofReader_0 := by decide +kernel
theorem dX6_ofReader_0 : decode cX6_ofReader 0 = .ok (.aload_n 0, 1) := dk_42 (dk_at dksX6_ofReader_0 0 rfl rfl)
theorem dX6_ofReader_1 : decode cX6_ofReader 1 = .ok (.getfield 7, 3) := dk_180 0 7 (dk_at dksX6_ofReader_0 1 rfl rfl)
theorem dX6_ofReader_4 : decode cX6_ofReader 4 = .ok (.sipush 454, 3) := dk_17 1 198 (dk_at dksX6_ofReader_0 4 rfl rfl)
theorem dX6_ofReader_7 : decode cX6_ofReader 7 = .ok (.iconst 3, 1) := dk_6 (dk_at dksX6_ofReader_0 7 rfl rfl)
theorem dX6_ofReader_8 : decode cX6_ofReader 8 = .ok (.iload_n 1, 1) := dk_27 (dk_at dksX6_ofReader_0 8 rfl rfl)
theorem dX6_ofReader_9 : decode cX6_ofReader 9 = .ok (.imul, 1) := dk_104 (dk_at dksX6_ofReader_0 9 rfl rfl)
theorem dX6_ofReader_10 : decode cX6_ofReader 10 = .ok (.iadd, 1) := dk_96 (dk_at dksX6_ofReader_0 10 rfl rfl)
theorem dX6_ofReader_11 : decode cX6_ofReader 11 = .ok (.iload_n 2, 1) := dk_28 (dk_at dksX6_ofReader_0 11 rfl rfl)
theorem dX6_ofReader_12 : decode cX6_ofReader 12 = .ok (.iadd, 1) := dk_96 (dk_at dksX6_ofReader_0 12 rfl rfl)
theorem dX6_ofReader_13 : decode cX6_ofReader 13 = .ok (.iaload, 1) := dk_46 (dk_at dksX6_ofReader_0 13 rfl rfl)
theorem dX6_ofReader_14 : decode cX6_ofReader 14 = .ok (.ireturn, 1) := dk_172 (dk_at dksX6_ofReader_0 14 rfl rfl)
/-! PageGardenModel.ofReader(II)I -/
abbrev M_X6_ofReader (z0 n0 : Nat) (s' : gS) : gM := (RX6, cX6_ofReader, 3, (some FieldType.int), "ofReader", [], 1, z0, n0, s'.2.1, s'.2.2)
abbrev W_X6_ofReader (E : gE) (z0 n0 : Nat) (r : Int32) (s' : gS) (pc : Nat) (L : List (Nat × gV)) (st : List gV) (s : gS) : Prop := gW E (M_X6_ofReader z0 n0 s') (gQm E (M_X6_ofReader z0 n0 s') (.inl (some (vI r))) s') pc L st s
noncomputable def f_X6_ofReader_0 (κ : gK) (F : Nat)  (l0 : Option Nat) (l1 : Int32) (l2 : Int32) (s : gS) : Option (Int32 × gS) :=
  gB1 (gfR s l0 9 0) fun v1 =>
  gB1 (gaI s v1 0 (((454 : Int32) + ((3 : Int32) * l1)) + l2)) fun v2 =>
  some (v2, s)
set_option maxHeartbeats 4000000 in
theorem w_X6_ofReader_0 {E : gE} {F z0 n0 : Nat} {r : Int32} {s' : gS}   : ∀ (l0 : Option Nat) (l1 : Int32) (l2 : Int32)  (s : gS), f_X6_ofReader_0 (gk E) F  l0 l1 l2 s = some (r, s') → W_X6_ofReader E z0 n0 r s' 0 [(0, vR l0), (1, vI l1), (2, vI l2)] [] s := by
  intro l0 l1 l2 s hB
  unfold f_X6_ofReader_0 at hB
  refine gw_aload_n 0 rfl dX6_ofReader_0 ?_
  obtain ⟨v1, hv1, hB⟩ := gB1_some hB
  refine gw_getf (C := RX6) (T := TX6) (N := 13) (k := 0) gcl9 (by decide) in_X6 q2694 (gfR_spec hv1) dX6_ofReader_1 ?_
  refine gw_sipush (v := (454 : Int32)) (by decide) dX6_ofReader_4 ?_
  refine gw_iconst (v := (3 : Int32)) (by decide) dX6_ofReader_7 ?_
  refine gw_iload_n 1 rfl dX6_ofReader_8 ?_
  refine gw_imul dX6_ofReader_9 ?_
  refine gw_iadd dX6_ofReader_10 ?_
  refine gw_iload_n 2 rfl dX6_ofReader_11 ?_
  refine gw_iadd dX6_ofReader_12 ?_
  obtain ⟨v2, hv2, hB⟩ := gB1_some hB
  refine gw_iaload hv2 dX6_ofReader_13 ?_
  obtain ⟨rfl, rfl⟩ := Prod.mk.inj (Option.some.inj hB)
  exact gw_iret rfl rfl rfl dX6_ofReader_14
noncomputable def f_X6_ofReader (κ : gK) (F : Nat) (a0 : Option Nat) (a1 : Int32) (a2 : Int32) (s : gS) : Option (Int32 × gS) := f_X6_ofReader_0 κ F a0 a1 a2 s
theorem m_X6_ofReader {E : gE} {F : Nat} (a0 : Option Nat) (a1 : Int32) (a2 : Int32) (s : gS) (r : Int32) (s' : gS) (h : f_X6_ofReader (gk E) F a0 a1 a2 s = some (r, s')) : gCT E 1 yX6_ofReader (ws_ yX6_ofReader cX6_ofReader 3 (some FieldType.int)) [vR a0, vI a1, vI a2] s (.inl (some (vI r))) s' := by
  refine gCT_of2 (fun h => absurd h (by decide)) (plainFor_of_name (by decide)) (Nat.le_of_ble_eq_true rfl) ?_
  exact gw_sub [0, 1, 2] rfl (w_X6_ofReader_0 _ _ _ _ h)
def dkwX6_needed_5 : List UInt8 := [167, 0, 4, 28, 61, 132, 3, 1, 167, 255, 200, 28, 172]
abbrev dktX6_needed_5 : List UInt8 := dkwX6_needed_5 ++ []
def dkwX6_needed_4 : List UInt8 := [28, 162, 0, 7, 4, 167, 0, 4, 3, 54, 4, 21, 4, 153, 0, 12, 42, 29, 4, 182, 0, 50]
abbrev dktX6_needed_4 : List UInt8 := dkwX6_needed_4 ++ dktX6_needed_5
def dkwX6_needed_3 : List UInt8 := [162, 0, 57, 29, 27, 159, 0, 27, 42, 29, 3, 182, 0, 50, 4, 160, 0, 17, 42, 29, 4, 182, 0, 50]
abbrev dktX6_needed_3 : List UInt8 := dkwX6_needed_3 ++ dktX6_needed_4
def dkwX6_needed_2 : List UInt8 := [153, 0, 12, 42, 29, 3, 182, 0, 46, 167, 0, 4, 28, 61, 132, 3, 1, 167, 255, 205, 3, 62, 29, 7]
abbrev dktX6_needed_2 : List UInt8 := dkwX6_needed_2 ++ dktX6_needed_3
def dkwX6_needed_1 : List UInt8 := [160, 0, 17, 42, 29, 3, 182, 0, 46, 28, 162, 0, 7, 4, 167, 0, 4, 3, 54, 4, 21, 4]
abbrev dktX6_needed_1 : List UInt8 := dkwX6_needed_1 ++ dktX6_needed_2
def dkwX6_needed_0 : List UInt8 := [42, 42, 182, 0, 42, 3, 182, 0, 46, 61, 3, 62, 29, 5, 162, 0, 52, 42, 29, 5, 182, 0, 46, 4]
abbrev dktX6_needed_0 : List UInt8 := dkwX6_needed_0 ++ dktX6_needed_1
theorem dksX6_needed_0 : cX6_needed.data.toList.drop 0 = dktX6_needed_0 := by decide +kernel
theorem dksX6_needed_1 : cX6_needed.data.toList.drop 24 = dktX6_needed_1 := dk_seg dksX6_needed_0 24 rfl rfl
theorem dksX6_needed_2 : cX6_needed.data.toList.drop 46 = dktX6_needed_2 := dk_seg dksX6_needed_1 22 rfl rfl
theorem dksX6_needed_3 : cX6_needed.data.toList.drop 70 = dktX6_needed_3 := dk_seg dksX6_needed_2 24 rfl rfl
theorem dksX6_needed_4 : cX6_needed.data.toList.drop 94 = dktX6_needed_4 := dk_seg dksX6_needed_3 24 rfl rfl
theorem dksX6_needed_5 : cX6_needed.data.toList.drop 116 = dktX6_needed_5 := dk_seg dksX6_needed_4 22 rfl rfl
theorem dX6_needed_0 : decode cX6_needed 0 = .ok (.aload_n 0, 1) := dk_42 (dk_at dksX6_needed_0 0 rfl rfl)
theorem dX6_needed_1 : decode cX6_needed 1 = .ok (.aload_n 0, 1) := dk_42 (dk_at dksX6_needed_0 1 rfl rfl)
theorem dX6_needed_2 : decode cX6_needed 2 = .ok (.invokevirtual 42, 3) := dk_182 0 42 (dk_at dksX6_needed_0 2 rfl rfl)
theorem dX6_needed_5 : decode cX6_needed 5 = .ok (.iconst 0, 1) := dk_3 (dk_at dksX6_needed_0 5 rfl rfl)
theorem dX6_needed_6 : decode cX6_needed 6 = .ok (.invokevirtual 46, 3) := dk_182 0 46 (dk_at dksX6_needed_0 6 rfl rfl)
theorem dX6_needed_9 : decode cX6_needed 9 = .ok (.istore_n 2, 1) := dk_61 (dk_at dksX6_needed_0 9 rfl rfl)
theorem dX6_needed_10 : decode cX6_needed 10 = .ok (.iconst 0, 1) := dk_3 (dk_at dksX6_needed_0 10 rfl rfl)
theorem dX6_needed_11 : decode cX6_needed 11 = .ok (.istore_n 3, 1) := dk_62 (dk_at dksX6_needed_0 11 rfl rfl)
theorem dX6_needed_12 : decode cX6_needed 12 = .ok (.iload_n 3, 1) := dk_29 (dk_at dksX6_needed_0 12 rfl rfl)
theorem dX6_needed_13 : decode cX6_needed 13 = .ok (.iconst 2, 1) := dk_5 (dk_at dksX6_needed_0 13 rfl rfl)
theorem dX6_needed_14 : decode cX6_needed 14 = .ok (.if_icmp .ge 52, 3) := dk_162 0 52 (dk_at dksX6_needed_0 14 rfl rfl)
theorem dX6_needed_17 : decode cX6_needed 17 = .ok (.aload_n 0, 1) := dk_42 (dk_at dksX6_needed_0 17 rfl rfl)
theorem dX6_needed_18 : decode cX6_needed 18 = .ok (.iload_n 3, 1) := dk_29 (dk_at dksX6_needed_0 18 rfl rfl)
theorem dX6_needed_19 : decode cX6_needed 19 = .ok (.iconst 2, 1) := dk_5 (dk_at dksX6_needed_0 19 rfl rfl)
theorem dX6_needed_20 : decode cX6_needed 20 = .ok (.invokevirtual 46, 3) := dk_182 0 46 (dk_at dksX6_needed_0 20 rfl rfl)
theorem dX6_needed_23 : decode cX6_needed 23 = .ok (.iconst 1, 1) := dk_4 (dk_at dksX6_needed_0 23 rfl rfl)
theorem dX6_needed_24 : decode cX6_needed 24 = .ok (.if_icmp .ne 17, 3) := dk_160 0 17 (dk_at dksX6_needed_1 0 rfl rfl)
theorem dX6_needed_27 : decode cX6_needed 27 = .ok (.aload_n 0, 1) := dk_42 (dk_at dksX6_needed_1 3 rfl rfl)
theorem dX6_needed_28 : decode cX6_needed 28 = .ok (.iload_n 3, 1) := dk_29 (dk_at dksX6_needed_1 4 rfl rfl)
theorem dX6_needed_29 : decode cX6_needed 29 = .ok (.iconst 0, 1) := dk_3 (dk_at dksX6_needed_1 5 rfl rfl)
theorem dX6_needed_30 : decode cX6_needed 30 = .ok (.invokevirtual 46, 3) := dk_182 0 46 (dk_at dksX6_needed_1 6 rfl rfl)
theorem dX6_needed_33 : decode cX6_needed 33 = .ok (.iload_n 2, 1) := dk_28 (dk_at dksX6_needed_1 9 rfl rfl)
theorem dX6_needed_34 : decode cX6_needed 34 = .ok (.if_icmp .ge 7, 3) := dk_162 0 7 (dk_at dksX6_needed_1 10 rfl rfl)
theorem dX6_needed_37 : decode cX6_needed 37 = .ok (.iconst 1, 1) := dk_4 (dk_at dksX6_needed_1 13 rfl rfl)
theorem dX6_needed_38 : decode cX6_needed 38 = .ok (.goto 4, 3) := dk_167 0 4 (dk_at dksX6_needed_1 14 rfl rfl)
theorem dX6_needed_41 : decode cX6_needed 41 = .ok (.iconst 0, 1) := dk_3 (dk_at dksX6_needed_1 17 rfl rfl)
theorem dX6_needed_42 : decode cX6_needed 42 = .ok (.istore 4, 2) := dk_54 4 (dk_at dksX6_needed_1 18 rfl rfl)
theorem dX6_needed_44 : decode cX6_needed 44 = .ok (.iload 4, 2) := dk_21 4 (dk_at dksX6_needed_1 20 rfl rfl)
theorem dX6_needed_46 : decode cX6_needed 46 = .ok (.ifCond .eq 12, 3) := dk_153 0 12 (dk_at dksX6_needed_2 0 rfl rfl)
theorem dX6_needed_49 : decode cX6_needed 49 = .ok (.aload_n 0, 1) := dk_42 (dk_at dksX6_needed_2 3 rfl rfl)
theorem dX6_needed_50 : decode cX6_needed 50 = .ok (.iload_n 3, 1) := dk_29 (dk_at dksX6_needed_2 4 rfl rfl)
theorem dX6_needed_51 : decode cX6_needed 51 = .ok (.iconst 0, 1) := dk_3 (dk_at dksX6_needed_2 5 rfl rfl)
theorem dX6_needed_52 : decode cX6_needed 52 = .ok (.invokevirtual 46, 3) := dk_182 0 46 (dk_at dksX6_needed_2 6 rfl rfl)
theorem dX6_needed_55 : decode cX6_needed 55 = .ok (.goto 4, 3) := dk_167 0 4 (dk_at dksX6_needed_2 9 rfl rfl)
theorem dX6_needed_58 : decode cX6_needed 58 = .ok (.iload_n 2, 1) := dk_28 (dk_at dksX6_needed_2 12 rfl rfl)
theorem dX6_needed_59 : decode cX6_needed 59 = .ok (.istore_n 2, 1) := dk_61 (dk_at dksX6_needed_2 13 rfl rfl)
theorem dX6_needed_60 : decode cX6_needed 60 = .ok (.iinc 3 1, 3) := dk_132 3 1 (dk_at dksX6_needed_2 14 rfl rfl)
theorem dX6_needed_63 : decode cX6_needed 63 = .ok (.goto (-51), 3) := dk_167 255 205 (dk_at dksX6_needed_2 17 rfl rfl)
theorem dX6_needed_66 : decode cX6_needed 66 = .ok (.iconst 0, 1) := dk_3 (dk_at dksX6_needed_2 20 rfl rfl)
theorem dX6_needed_67 : decode cX6_needed 67 = .ok (.istore_n 3, 1) := dk_62 (dk_at dksX6_needed_2 21 rfl rfl)
theorem dX6_needed_68 : decode cX6_needed 68 = .ok (.iload_n 3, 1) := dk_29 (dk_at dksX6_needed_2 22 rfl rfl)
theorem dX6_needed_69 : decode cX6_needed 69 = .ok (.iconst 4, 1) := dk_7 (dk_at dksX6_needed_2 23 rfl rfl)
theorem dX6_needed_70 : decode cX6_needed 70 = .ok (.if_icmp .ge 57, 3) := dk_162 0 57 (dk_at dksX6_needed_3 0 rfl rfl)
theorem dX6_needed_73 : decode cX6_needed 73 = .ok (.iload_n 3, 1) := dk_29 (dk_at dksX6_needed_3 3 rfl rfl)
theorem dX6_needed_74 : decode cX6_needed 74 = .ok (.iload_n 1, 1) := dk_27 (dk_at dksX6_needed_3 4 rfl rfl)
theorem dX6_needed_75 : decode cX6_needed 75 = .ok (.if_icmp .eq 27, 3) := dk_159 0 27 (dk_at dksX6_needed_3 5 rfl rfl)
theorem dX6_needed_78 : decode cX6_needed 78 = .ok (.aload_n 0, 1) := dk_42 (dk_at dksX6_needed_3 8 rfl rfl)
theorem dX6_needed_79 : decode cX6_needed 79 = .ok (.iload_n 3, 1) := dk_29 (dk_at dksX6_needed_3 9 rfl rfl)
theorem dX6_needed_80 : decode cX6_needed 80 = .ok (.iconst 0, 1) := dk_3 (dk_at dksX6_needed_3 10 rfl rfl)
theorem dX6_needed_81 : decode cX6_needed 81 = .ok (.invokevirtual 50, 3) := dk_182 0 50 (dk_at dksX6_needed_3 11 rfl rfl)
theorem dX6_needed_84 : decode cX6_needed 84 = .ok (.iconst 1, 1) := dk_4 (dk_at dksX6_needed_3 14 rfl rfl)
theorem dX6_needed_85 : decode cX6_needed 85 = .ok (.if_icmp .ne 17, 3) := dk_160 0 17 (dk_at dksX6_needed_3 15 rfl rfl)
theorem dX6_needed_88 : decode cX6_needed 88 = .ok (.aload_n 0, 1) := dk_42 (dk_at dksX6_needed_3 18 rfl rfl)
theorem dX6_needed_89 : decode cX6_needed 89 = .ok (.iload_n 3, 1) := dk_29 (dk_at dksX6_needed_3 19 rfl rfl)
theorem dX6_needed_90 : decode cX6_needed 90 = .ok (.iconst 1, 1) := dk_4 (dk_at dksX6_needed_3 20 rfl rfl)
theorem dX6_needed_91 : decode cX6_needed 91 = .ok (.invokevirtual 50, 3) := dk_182 0 50 (dk_at dksX6_needed_3 21 rfl rfl)
theorem dX6_needed_94 : decode cX6_needed 94 = .ok (.iload_n 2, 1) := dk_28 (dk_at dksX6_needed_4 0 rfl rfl)
theorem dX6_needed_95 : decode cX6_needed 95 = .ok (.if_icmp .ge 7, 3) := dk_162 0 7 (dk_at dksX6_needed_4 1 rfl rfl)
theorem dX6_needed_98 : decode cX6_needed 98 = .ok (.iconst 1, 1) := dk_4 (dk_at dksX6_needed_4 4 rfl rfl)
theorem dX6_needed_99 : decode cX6_needed 99 = .ok (.goto 4, 3) := dk_167 0 4 (dk_at dksX6_needed_4 5 rfl rfl)
theorem dX6_needed_102 : decode cX6_needed 102 = .ok (.iconst 0, 1) := dk_3 (dk_at dksX6_needed_4 8 rfl rfl)
theorem dX6_needed_103 : decode cX6_needed 103 = .ok (.istore 4, 2) := dk_54 4 (dk_at dksX6_needed_4 9 rfl rfl)
theorem dX6_needed_105 : decode cX6_needed 105 = .ok (.iload 4, 2) := dk_21 4 (dk_at dksX6_needed_4 11 rfl rfl)
theorem dX6_needed_107 : decode cX6_needed 107 = .ok (.ifCond .eq 12, 3) := dk_153 0 12 (dk_at dksX6_needed_4 13 rfl rfl)
theorem dX6_needed_110 : decode cX6_needed 110 = .ok (.aload_n 0, 1) := dk_42 (dk_at dksX6_needed_4 16 rfl rfl)
theorem dX6_needed_111 : decode cX6_needed 111 = .ok (.iload_n 3, 1) := dk_29 (dk_at dksX6_needed_4 17 rfl rfl)
theorem dX6_needed_112 : decode cX6_needed 112 = .ok (.iconst 1, 1) := dk_4 (dk_at dksX6_needed_4 18 rfl rfl)
theorem dX6_needed_113 : decode cX6_needed 113 = .ok (.invokevirtual 50, 3) := dk_182 0 50 (dk_at dksX6_needed_4 19 rfl rfl)
theorem dX6_needed_116 : decode cX6_needed 116 = .ok (.goto 4, 3) := dk_167 0 4 (dk_at dksX6_needed_5 0 rfl rfl)
theorem dX6_needed_119 : decode cX6_needed 119 = .ok (.iload_n 2, 1) := dk_28 (dk_at dksX6_needed_5 3 rfl rfl)
theorem dX6_needed_120 : decode cX6_needed 120 = .ok (.istore_n 2, 1) := dk_61 (dk_at dksX6_needed_5 4 rfl rfl)
theorem dX6_needed_121 : decode cX6_needed 121 = .ok (.iinc 3 1, 3) := dk_132 3 1 (dk_at dksX6_needed_5 5 rfl rfl)
theorem dX6_needed_124 : decode cX6_needed 124 = .ok (.goto (-56), 3) := dk_167 255 200 (dk_at dksX6_needed_5 8 rfl rfl)
theorem dX6_needed_127 : decode cX6_needed 127 = .ok (.iload_n 2, 1) := dk_28 (dk_at dksX6_needed_5 11 rfl rfl)
theorem dX6_needed_128 : decode cX6_needed 128 = .ok (.ireturn, 1) := dk_172 (dk_at dksX6_needed_5 12 rfl rfl)
/-! PageGardenModel.needed(I)I -/
abbrev M_X6_needed (z0 n0 : Nat) (s' : gS) : gM := (RX6, cX6_needed, 5, (some FieldType.int), "needed", [], 2, z0, n0, s'.2.1, s'.2.2)
abbrev W_X6_needed (E : gE) (z0 n0 : Nat) (r : Int32) (s' : gS) (pc : Nat) (L : List (Nat × gV)) (st : List gV) (s : gS) : Prop := gW E (M_X6_needed z0 n0 s') (gQm E (M_X6_needed z0 n0 s') (.inl (some (vI r))) s') pc L st s
noncomputable def f_X6_needed_59 (κ : gK) (F : Nat) (k12 : Option Nat → Int32 → Int32 → Int32 → gS → Option (Int32 × gS)) (l0 : Option Nat) (l1 : Int32) (l3 : Int32) (t0 : Int32) (s : gS) : Option (Int32 × gS) :=
  k12 l0 l1 t0 (l3 + (1 : Int32)) s
set_option maxHeartbeats 4000000 in
theorem w_X6_needed_59 {E : gE} {F z0 n0 : Nat} {r : Int32} {s' : gS} {k12 : Option Nat → Int32 → Int32 → Int32 → gS → Option (Int32 × gS)} (hk12 : ∀ (l0 : Option Nat) (l1 : Int32) (l2 : Int32) (l3 : Int32) (s : gS), k12 l0 l1 l2 l3 s = some (r, s') → W_X6_needed E z0 n0 r s' 12 [(0, vR l0), (1, vI l1), (2, vI l2), (3, vI l3)] [] s) : ∀ (l0 : Option Nat) (l1 : Int32) (l3 : Int32) (t0 : Int32) (s : gS), f_X6_needed_59 (gk E) F k12 l0 l1 l3 t0 s = some (r, s') → W_X6_needed E z0 n0 r s' 59 [(0, vR l0), (1, vI l1), (3, vI l3)] [vI t0] s := by
  intro l0 l1 l3 t0 s hB
  unfold f_X6_needed_59 at hB
  refine gw_istore_n (L' := [(2, vI t0), (0, vR l0), (1, vI l1), (3, vI l3)]) (Nat.le_of_ble_eq_true rfl) rfl dX6_needed_59 ?_
  refine gw_iinc (w := (1 : Int32)) (L' := [(3, vI (l3 + (1 : Int32))), (2, vI t0), (0, vR l0), (1, vI l1)]) 3 rfl (by decide) (Nat.le_of_ble_eq_true rfl) rfl dX6_needed_60 ?_
  refine gw_goto (tgt := 12) dX6_needed_63 (by decide) ?_
  exact gw_sub [2, 3, 1, 0] rfl (hk12 _ _ _ _ _ hB)
noncomputable def f_X6_needed_42 (κ : gK) (F : Nat) (k12 : Option Nat → Int32 → Int32 → Int32 → gS → Option (Int32 × gS)) (l0 : Option Nat) (l1 : Int32) (l2 : Int32) (l3 : Int32) (t0 : Int32) (s : gS) : Option (Int32 × gS) :=
  if t0 = 0 then
    f_X6_needed_59 κ F k12 l0 l1 l3 l2 s
  else
    gB1 (gck s l0 9) fun _ =>
    gB2 (f_X6_ofRoot κ F l0 l3 (0 : Int32) s) fun v2 s1 =>
    f_X6_needed_59 κ F k12 l0 l1 l3 v2 s1
set_option maxHeartbeats 4000000 in
theorem w_X6_needed_42 {E : gE} {F z0 n0 : Nat} {r : Int32} {s' : gS} {k12 : Option Nat → Int32 → Int32 → Int32 → gS → Option (Int32 × gS)} (hk12 : ∀ (l0 : Option Nat) (l1 : Int32) (l2 : Int32) (l3 : Int32) (s : gS), k12 l0 l1 l2 l3 s = some (r, s') → W_X6_needed E z0 n0 r s' 12 [(0, vR l0), (1, vI l1), (2, vI l2), (3, vI l3)] [] s) : ∀ (l0 : Option Nat) (l1 : Int32) (l2 : Int32) (l3 : Int32) (t0 : Int32) (s : gS), f_X6_needed_42 (gk E) F k12 l0 l1 l2 l3 t0 s = some (r, s') → W_X6_needed E z0 n0 r s' 42 [(0, vR l0), (1, vI l1), (2, vI l2), (3, vI l3)] [vI t0] s := by
  intro l0 l1 l2 l3 t0 s hB
  unfold f_X6_needed_42 at hB
  refine gw_istore (L' := [(4, vI t0), (0, vR l0), (1, vI l1), (2, vI l2), (3, vI l3)]) (Nat.le_of_ble_eq_true rfl) rfl dX6_needed_42 ?_
  refine gw_iload 0 rfl dX6_needed_44 ?_
  refine gw_if_eq (tgt := 58) dX6_needed_46 (by decide) (fun hcnd => ?_) (fun hcnd => ?_)
  · rw [if_pos hcnd] at hB
    refine gw_iload_n 3 rfl dX6_needed_58 ?_
    exact gw_sub [1, 2, 4] rfl (w_X6_needed_59 hk12 _ _ _ _ _ hB)
  · rw [if_neg hcnd] at hB
    refine gw_aload_n 1 rfl dX6_needed_49 ?_
    refine gw_iload_n 4 rfl dX6_needed_50 ?_
    refine gw_iconst (v := (0 : Int32)) (by decide) dX6_needed_51 ?_
    obtain ⟨u0, hu3, hB⟩ := gB1_some hB
    obtain ⟨v2, s1, hv2, hB⟩ := gB2_some hB
    refine gw_callV (y := yX6_ofRoot) (lw_V q2761 q2763 qs51 q143 q2764) hdV_X6_ofRoot gcl9 hu3 (As := [vI l3, vI (0 : Int32)]) (rest := []) (m_X6_ofRoot _ _ _ _ _ _ hv2) (Nat.le_of_ble_eq_true rfl) (Nat.le_of_ble_eq_true rfl) rfl (Nat.le_of_ble_eq_true rfl) dX6_needed_52 (gCont_i ?_)
    refine gw_goto (tgt := 59) dX6_needed_55 (by decide) ?_
    exact gw_sub [1, 2, 4] rfl (w_X6_needed_59 hk12 _ _ _ _ _ hB)
noncomputable def f_X6_needed_41 (κ : gK) (F : Nat) (k12 : Option Nat → Int32 → Int32 → Int32 → gS → Option (Int32 × gS)) (l0 : Option Nat) (l1 : Int32) (l2 : Int32) (l3 : Int32) (s : gS) : Option (Int32 × gS) :=
  f_X6_needed_42 κ F k12 l0 l1 l2 l3 (0 : Int32) s
set_option maxHeartbeats 4000000 in
theorem w_X6_needed_41 {E : gE} {F z0 n0 : Nat} {r : Int32} {s' : gS} {k12 : Option Nat → Int32 → Int32 → Int32 → gS → Option (Int32 × gS)} (hk12 : ∀ (l0 : Option Nat) (l1 : Int32) (l2 : Int32) (l3 : Int32) (s : gS), k12 l0 l1 l2 l3 s = some (r, s') → W_X6_needed E z0 n0 r s' 12 [(0, vR l0), (1, vI l1), (2, vI l2), (3, vI l3)] [] s) : ∀ (l0 : Option Nat) (l1 : Int32) (l2 : Int32) (l3 : Int32)  (s : gS), f_X6_needed_41 (gk E) F k12 l0 l1 l2 l3 s = some (r, s') → W_X6_needed E z0 n0 r s' 41 [(0, vR l0), (1, vI l1), (2, vI l2), (3, vI l3)] [] s := by
  intro l0 l1 l2 l3 s hB
  unfold f_X6_needed_41 at hB
  refine gw_iconst (v := (0 : Int32)) (by decide) dX6_needed_41 ?_
  exact gw_sub [0, 1, 2, 3] rfl (w_X6_needed_42 hk12 _ _ _ _ _ _ hB)
noncomputable def f_X6_needed_120 (κ : gK) (F : Nat) (k68 : Option Nat → Int32 → Int32 → Int32 → gS → Option (Int32 × gS)) (l0 : Option Nat) (l1 : Int32) (l3 : Int32) (t0 : Int32) (s : gS) : Option (Int32 × gS) :=
  k68 l0 l1 t0 (l3 + (1 : Int32)) s
set_option maxHeartbeats 4000000 in
theorem w_X6_needed_120 {E : gE} {F z0 n0 : Nat} {r : Int32} {s' : gS} {k68 : Option Nat → Int32 → Int32 → Int32 → gS → Option (Int32 × gS)} (hk68 : ∀ (l0 : Option Nat) (l1 : Int32) (l2 : Int32) (l3 : Int32) (s : gS), k68 l0 l1 l2 l3 s = some (r, s') → W_X6_needed E z0 n0 r s' 68 [(0, vR l0), (1, vI l1), (2, vI l2), (3, vI l3)] [] s) : ∀ (l0 : Option Nat) (l1 : Int32) (l3 : Int32) (t0 : Int32) (s : gS), f_X6_needed_120 (gk E) F k68 l0 l1 l3 t0 s = some (r, s') → W_X6_needed E z0 n0 r s' 120 [(0, vR l0), (1, vI l1), (3, vI l3)] [vI t0] s := by
  intro l0 l1 l3 t0 s hB
  unfold f_X6_needed_120 at hB
  refine gw_istore_n (L' := [(2, vI t0), (0, vR l0), (1, vI l1), (3, vI l3)]) (Nat.le_of_ble_eq_true rfl) rfl dX6_needed_120 ?_
  refine gw_iinc (w := (1 : Int32)) (L' := [(3, vI (l3 + (1 : Int32))), (2, vI t0), (0, vR l0), (1, vI l1)]) 3 rfl (by decide) (Nat.le_of_ble_eq_true rfl) rfl dX6_needed_121 ?_
  refine gw_goto (tgt := 68) dX6_needed_124 (by decide) ?_
  exact gw_sub [2, 3, 1, 0] rfl (hk68 _ _ _ _ _ hB)
noncomputable def f_X6_needed_103 (κ : gK) (F : Nat) (k68 : Option Nat → Int32 → Int32 → Int32 → gS → Option (Int32 × gS)) (l0 : Option Nat) (l1 : Int32) (l2 : Int32) (l3 : Int32) (t0 : Int32) (s : gS) : Option (Int32 × gS) :=
  if t0 = 0 then
    f_X6_needed_120 κ F k68 l0 l1 l3 l2 s
  else
    gB1 (gck s l0 9) fun _ =>
    gB2 (f_X6_ofReader κ F l0 l3 (1 : Int32) s) fun v2 s1 =>
    f_X6_needed_120 κ F k68 l0 l1 l3 v2 s1
set_option maxHeartbeats 4000000 in
theorem w_X6_needed_103 {E : gE} {F z0 n0 : Nat} {r : Int32} {s' : gS} {k68 : Option Nat → Int32 → Int32 → Int32 → gS → Option (Int32 × gS)} (hk68 : ∀ (l0 : Option Nat) (l1 : Int32) (l2 : Int32) (l3 : Int32) (s : gS), k68 l0 l1 l2 l3 s = some (r, s') → W_X6_needed E z0 n0 r s' 68 [(0, vR l0), (1, vI l1), (2, vI l2), (3, vI l3)] [] s) : ∀ (l0 : Option Nat) (l1 : Int32) (l2 : Int32) (l3 : Int32) (t0 : Int32) (s : gS), f_X6_needed_103 (gk E) F k68 l0 l1 l2 l3 t0 s = some (r, s') → W_X6_needed E z0 n0 r s' 103 [(0, vR l0), (1, vI l1), (2, vI l2), (3, vI l3)] [vI t0] s := by
  intro l0 l1 l2 l3 t0 s hB
  unfold f_X6_needed_103 at hB
  refine gw_istore (L' := [(4, vI t0), (0, vR l0), (1, vI l1), (2, vI l2), (3, vI l3)]) (Nat.le_of_ble_eq_true rfl) rfl dX6_needed_103 ?_
  refine gw_iload 0 rfl dX6_needed_105 ?_
  refine gw_if_eq (tgt := 119) dX6_needed_107 (by decide) (fun hcnd => ?_) (fun hcnd => ?_)
  · rw [if_pos hcnd] at hB
    refine gw_iload_n 3 rfl dX6_needed_119 ?_
    exact gw_sub [1, 2, 4] rfl (w_X6_needed_120 hk68 _ _ _ _ _ hB)
  · rw [if_neg hcnd] at hB
    refine gw_aload_n 1 rfl dX6_needed_110 ?_
    refine gw_iload_n 4 rfl dX6_needed_111 ?_
    refine gw_iconst (v := (1 : Int32)) (by decide) dX6_needed_112 ?_
    obtain ⟨u0, hu3, hB⟩ := gB1_some hB
    obtain ⟨v2, s1, hv2, hB⟩ := gB2_some hB
    refine gw_callV (y := yX6_ofReader) (lw_V q2824 q2826 qs65 q143 q2827) hdV_X6_ofReader gcl9 hu3 (As := [vI l3, vI (1 : Int32)]) (rest := []) (m_X6_ofReader _ _ _ _ _ _ hv2) (Nat.le_of_ble_eq_true rfl) (Nat.le_of_ble_eq_true rfl) rfl (Nat.le_of_ble_eq_true rfl) dX6_needed_113 (gCont_i ?_)
    refine gw_goto (tgt := 120) dX6_needed_116 (by decide) ?_
    exact gw_sub [1, 2, 4] rfl (w_X6_needed_120 hk68 _ _ _ _ _ hB)
noncomputable def f_X6_needed_102 (κ : gK) (F : Nat) (k68 : Option Nat → Int32 → Int32 → Int32 → gS → Option (Int32 × gS)) (l0 : Option Nat) (l1 : Int32) (l2 : Int32) (l3 : Int32) (s : gS) : Option (Int32 × gS) :=
  f_X6_needed_103 κ F k68 l0 l1 l2 l3 (0 : Int32) s
set_option maxHeartbeats 4000000 in
theorem w_X6_needed_102 {E : gE} {F z0 n0 : Nat} {r : Int32} {s' : gS} {k68 : Option Nat → Int32 → Int32 → Int32 → gS → Option (Int32 × gS)} (hk68 : ∀ (l0 : Option Nat) (l1 : Int32) (l2 : Int32) (l3 : Int32) (s : gS), k68 l0 l1 l2 l3 s = some (r, s') → W_X6_needed E z0 n0 r s' 68 [(0, vR l0), (1, vI l1), (2, vI l2), (3, vI l3)] [] s) : ∀ (l0 : Option Nat) (l1 : Int32) (l2 : Int32) (l3 : Int32)  (s : gS), f_X6_needed_102 (gk E) F k68 l0 l1 l2 l3 s = some (r, s') → W_X6_needed E z0 n0 r s' 102 [(0, vR l0), (1, vI l1), (2, vI l2), (3, vI l3)] [] s := by
  intro l0 l1 l2 l3 s hB
  unfold f_X6_needed_102 at hB
  refine gw_iconst (v := (0 : Int32)) (by decide) dX6_needed_102 ?_
  exact gw_sub [0, 1, 2, 3] rfl (w_X6_needed_103 hk68 _ _ _ _ _ _ hB)
noncomputable def f_X6_needed_68b (κ : gK) (F : Nat) (k68 : Option Nat → Int32 → Int32 → Int32 → gS → Option (Int32 × gS)) (l0 : Option Nat) (l1 : Int32) (l2 : Int32) (l3 : Int32) (s : gS) : Option (Int32 × gS) :=
  if (4 : Int32) ≤ l3 then
    some (l2, s)
  else
    if l3 = l1 then
      f_X6_needed_102 κ F k68 l0 l1 l2 l3 s
    else
      gB1 (gck s l0 9) fun _ =>
      gB2 (f_X6_ofReader κ F l0 l3 (0 : Int32) s) fun v2 s1 =>
      if v2 = (1 : Int32) then
        gB1 (gck s1 l0 9) fun _ =>
        gB2 (f_X6_ofReader κ F l0 l3 (1 : Int32) s1) fun v5 s4 =>
        if l2 ≤ v5 then
          f_X6_needed_102 κ F k68 l0 l1 l2 l3 s4
        else
          f_X6_needed_103 κ F k68 l0 l1 l2 l3 (1 : Int32) s4
      else
        f_X6_needed_102 κ F k68 l0 l1 l2 l3 s1
noncomputable def f_X6_needed_68 (κ : gK) (F : Nat)  : Nat → Option Nat → Int32 → Int32 → Int32 → gS → Option (Int32 × gS)
  | 0 => fun _ _ _ _ _ => none
  | n + 1 => f_X6_needed_68b κ F  (f_X6_needed_68 κ F  n)
set_option maxHeartbeats 4000000 in
theorem w_X6_needed_68b {E : gE} {F z0 n0 : Nat} {r : Int32} {s' : gS} {k68 : Option Nat → Int32 → Int32 → Int32 → gS → Option (Int32 × gS)} (hk68 : ∀ (l0 : Option Nat) (l1 : Int32) (l2 : Int32) (l3 : Int32) (s : gS), k68 l0 l1 l2 l3 s = some (r, s') → W_X6_needed E z0 n0 r s' 68 [(0, vR l0), (1, vI l1), (2, vI l2), (3, vI l3)] [] s) : ∀ (l0 : Option Nat) (l1 : Int32) (l2 : Int32) (l3 : Int32)  (s : gS), f_X6_needed_68b (gk E) F k68 l0 l1 l2 l3 s = some (r, s') → W_X6_needed E z0 n0 r s' 68 [(0, vR l0), (1, vI l1), (2, vI l2), (3, vI l3)] [] s := by
  intro l0 l1 l2 l3 s hB
  unfold f_X6_needed_68b at hB
  refine gw_iload_n 3 rfl dX6_needed_68 ?_
  refine gw_iconst (v := (4 : Int32)) (by decide) dX6_needed_69 ?_
  refine gw_icmp_ge (tgt := 127) dX6_needed_70 (by decide) (fun hcnd => ?_) (fun hcnd => ?_)
  · rw [if_pos hcnd] at hB
    refine gw_iload_n 2 rfl dX6_needed_127 ?_
    obtain ⟨rfl, rfl⟩ := Prod.mk.inj (Option.some.inj hB)
    exact gw_iret rfl rfl rfl dX6_needed_128
  · rw [if_neg hcnd] at hB
    refine gw_iload_n 3 rfl dX6_needed_73 ?_
    refine gw_iload_n 1 rfl dX6_needed_74 ?_
    refine gw_icmp_eq (tgt := 102) dX6_needed_75 (by decide) (fun hcnd => ?_) (fun hcnd => ?_)
    · rw [if_pos hcnd] at hB
      exact gw_sub [0, 1, 2, 3] rfl (w_X6_needed_102 hk68 _ _ _ _ _ hB)
    · rw [if_neg hcnd] at hB
      refine gw_aload_n 0 rfl dX6_needed_78 ?_
      refine gw_iload_n 3 rfl dX6_needed_79 ?_
      refine gw_iconst (v := (0 : Int32)) (by decide) dX6_needed_80 ?_
      obtain ⟨u0, hu3, hB⟩ := gB1_some hB
      obtain ⟨v2, s1, hv2, hB⟩ := gB2_some hB
      refine gw_callV (y := yX6_ofReader) (lw_V q2824 q2826 qs65 q143 q2827) hdV_X6_ofReader gcl9 hu3 (As := [vI l3, vI (0 : Int32)]) (rest := []) (m_X6_ofReader _ _ _ _ _ _ hv2) (Nat.le_of_ble_eq_true rfl) (Nat.le_of_ble_eq_true rfl) rfl (Nat.le_of_ble_eq_true rfl) dX6_needed_81 (gCont_i ?_)
      refine gw_iconst (v := (1 : Int32)) (by decide) dX6_needed_84 ?_
      refine gw_icmp_ne (tgt := 102) dX6_needed_85 (by decide) (fun hcnd => ?_) (fun hcnd => ?_)
      · rw [if_neg hcnd] at hB
        exact gw_sub [0, 1, 2, 3] rfl (w_X6_needed_102 hk68 _ _ _ _ _ hB)
      · rw [if_pos hcnd] at hB
        refine gw_aload_n 0 rfl dX6_needed_88 ?_
        refine gw_iload_n 3 rfl dX6_needed_89 ?_
        refine gw_iconst (v := (1 : Int32)) (by decide) dX6_needed_90 ?_
        obtain ⟨u0, hu6, hB⟩ := gB1_some hB
        obtain ⟨v5, s4, hv5, hB⟩ := gB2_some hB
        refine gw_callV (y := yX6_ofReader) (lw_V q2824 q2826 qs65 q143 q2827) hdV_X6_ofReader gcl9 hu6 (As := [vI l3, vI (1 : Int32)]) (rest := []) (m_X6_ofReader _ _ _ _ _ _ hv5) (Nat.le_of_ble_eq_true rfl) (Nat.le_of_ble_eq_true rfl) rfl (Nat.le_of_ble_eq_true rfl) dX6_needed_91 (gCont_i ?_)
        refine gw_iload_n 2 rfl dX6_needed_94 ?_
        refine gw_icmp_ge (tgt := 102) dX6_needed_95 (by decide) (fun hcnd => ?_) (fun hcnd => ?_)
        · rw [if_pos hcnd] at hB
          exact gw_sub [0, 1, 2, 3] rfl (w_X6_needed_102 hk68 _ _ _ _ _ hB)
        · rw [if_neg hcnd] at hB
          refine gw_iconst (v := (1 : Int32)) (by decide) dX6_needed_98 ?_
          refine gw_goto (tgt := 103) dX6_needed_99 (by decide) ?_
          exact gw_sub [0, 1, 2, 3] rfl (w_X6_needed_103 hk68 _ _ _ _ _ _ hB)
theorem w_X6_needed_68 {E : gE} {F z0 n0 : Nat} {r : Int32} {s' : gS}   : ∀ (n : Nat) (l0 : Option Nat) (l1 : Int32) (l2 : Int32) (l3 : Int32)  (s : gS), f_X6_needed_68 (gk E) F  n l0 l1 l2 l3 s = some (r, s') → W_X6_needed E z0 n0 r s' 68 [(0, vR l0), (1, vI l1), (2, vI l2), (3, vI l3)] [] s := by
  intro n
  induction n with
  | zero => intro l0 l1 l2 l3 s hB; cases hB
  | succ n ih => intro l0 l1 l2 l3 s hB; exact w_X6_needed_68b ih l0 l1 l2 l3 s hB
noncomputable def f_X6_needed_12b (κ : gK) (F : Nat) (k12 : Option Nat → Int32 → Int32 → Int32 → gS → Option (Int32 × gS)) (l0 : Option Nat) (l1 : Int32) (l2 : Int32) (l3 : Int32) (s : gS) : Option (Int32 × gS) :=
  if (2 : Int32) ≤ l3 then
    f_X6_needed_68 κ F  F l0 l1 l2 (0 : Int32) s
  else
    gB1 (gck s l0 9) fun _ =>
    gB2 (f_X6_ofRoot κ F l0 l3 (2 : Int32) s) fun v2 s1 =>
    if v2 = (1 : Int32) then
      gB1 (gck s1 l0 9) fun _ =>
      gB2 (f_X6_ofRoot κ F l0 l3 (0 : Int32) s1) fun v5 s4 =>
      if l2 ≤ v5 then
        f_X6_needed_41 κ F k12 l0 l1 l2 l3 s4
      else
        f_X6_needed_42 κ F k12 l0 l1 l2 l3 (1 : Int32) s4
    else
      f_X6_needed_41 κ F k12 l0 l1 l2 l3 s1
noncomputable def f_X6_needed_12 (κ : gK) (F : Nat)  : Nat → Option Nat → Int32 → Int32 → Int32 → gS → Option (Int32 × gS)
  | 0 => fun _ _ _ _ _ => none
  | n + 1 => f_X6_needed_12b κ F  (f_X6_needed_12 κ F  n)
set_option maxHeartbeats 4000000 in
theorem w_X6_needed_12b {E : gE} {F z0 n0 : Nat} {r : Int32} {s' : gS} {k12 : Option Nat → Int32 → Int32 → Int32 → gS → Option (Int32 × gS)} (hk12 : ∀ (l0 : Option Nat) (l1 : Int32) (l2 : Int32) (l3 : Int32) (s : gS), k12 l0 l1 l2 l3 s = some (r, s') → W_X6_needed E z0 n0 r s' 12 [(0, vR l0), (1, vI l1), (2, vI l2), (3, vI l3)] [] s) : ∀ (l0 : Option Nat) (l1 : Int32) (l2 : Int32) (l3 : Int32)  (s : gS), f_X6_needed_12b (gk E) F k12 l0 l1 l2 l3 s = some (r, s') → W_X6_needed E z0 n0 r s' 12 [(0, vR l0), (1, vI l1), (2, vI l2), (3, vI l3)] [] s := by
  intro l0 l1 l2 l3 s hB
  unfold f_X6_needed_12b at hB
  refine gw_iload_n 3 rfl dX6_needed_12 ?_
  refine gw_iconst (v := (2 : Int32)) (by decide) dX6_needed_13 ?_
  refine gw_icmp_ge (tgt := 66) dX6_needed_14 (by decide) (fun hcnd => ?_) (fun hcnd => ?_)
  · rw [if_pos hcnd] at hB
    refine gw_iconst (v := (0 : Int32)) (by decide) dX6_needed_66 ?_
    refine gw_istore_n (L' := [(3, vI (0 : Int32)), (0, vR l0), (1, vI l1), (2, vI l2)]) (Nat.le_of_ble_eq_true rfl) rfl dX6_needed_67 ?_
    exact gw_sub [1, 2, 3, 0] rfl (w_X6_needed_68  F _ _ _ _ _ hB)
  · rw [if_neg hcnd] at hB
    refine gw_aload_n 0 rfl dX6_needed_17 ?_
    refine gw_iload_n 3 rfl dX6_needed_18 ?_
    refine gw_iconst (v := (2 : Int32)) (by decide) dX6_needed_19 ?_
    obtain ⟨u0, hu3, hB⟩ := gB1_some hB
    obtain ⟨v2, s1, hv2, hB⟩ := gB2_some hB
    refine gw_callV (y := yX6_ofRoot) (lw_V q2761 q2763 qs51 q143 q2764) hdV_X6_ofRoot gcl9 hu3 (As := [vI l3, vI (2 : Int32)]) (rest := []) (m_X6_ofRoot _ _ _ _ _ _ hv2) (Nat.le_of_ble_eq_true rfl) (Nat.le_of_ble_eq_true rfl) rfl (Nat.le_of_ble_eq_true rfl) dX6_needed_20 (gCont_i ?_)
    refine gw_iconst (v := (1 : Int32)) (by decide) dX6_needed_23 ?_
    refine gw_icmp_ne (tgt := 41) dX6_needed_24 (by decide) (fun hcnd => ?_) (fun hcnd => ?_)
    · rw [if_neg hcnd] at hB
      exact gw_sub [0, 1, 2, 3] rfl (w_X6_needed_41 hk12 _ _ _ _ _ hB)
    · rw [if_pos hcnd] at hB
      refine gw_aload_n 0 rfl dX6_needed_27 ?_
      refine gw_iload_n 3 rfl dX6_needed_28 ?_
      refine gw_iconst (v := (0 : Int32)) (by decide) dX6_needed_29 ?_
      obtain ⟨u0, hu6, hB⟩ := gB1_some hB
      obtain ⟨v5, s4, hv5, hB⟩ := gB2_some hB
      refine gw_callV (y := yX6_ofRoot) (lw_V q2761 q2763 qs51 q143 q2764) hdV_X6_ofRoot gcl9 hu6 (As := [vI l3, vI (0 : Int32)]) (rest := []) (m_X6_ofRoot _ _ _ _ _ _ hv5) (Nat.le_of_ble_eq_true rfl) (Nat.le_of_ble_eq_true rfl) rfl (Nat.le_of_ble_eq_true rfl) dX6_needed_30 (gCont_i ?_)
      refine gw_iload_n 2 rfl dX6_needed_33 ?_
      refine gw_icmp_ge (tgt := 41) dX6_needed_34 (by decide) (fun hcnd => ?_) (fun hcnd => ?_)
      · rw [if_pos hcnd] at hB
        exact gw_sub [0, 1, 2, 3] rfl (w_X6_needed_41 hk12 _ _ _ _ _ hB)
      · rw [if_neg hcnd] at hB
        refine gw_iconst (v := (1 : Int32)) (by decide) dX6_needed_37 ?_
        refine gw_goto (tgt := 42) dX6_needed_38 (by decide) ?_
        exact gw_sub [0, 1, 2, 3] rfl (w_X6_needed_42 hk12 _ _ _ _ _ _ hB)
theorem w_X6_needed_12 {E : gE} {F z0 n0 : Nat} {r : Int32} {s' : gS}   : ∀ (n : Nat) (l0 : Option Nat) (l1 : Int32) (l2 : Int32) (l3 : Int32)  (s : gS), f_X6_needed_12 (gk E) F  n l0 l1 l2 l3 s = some (r, s') → W_X6_needed E z0 n0 r s' 12 [(0, vR l0), (1, vI l1), (2, vI l2), (3, vI l3)] [] s := by
  intro n
  induction n with
  | zero => intro l0 l1 l2 l3 s hB; cases hB
  | succ n ih => intro l0 l1 l2 l3 s hB; exact w_X6_needed_12b ih l0 l1 l2 l3 s hB
noncomputable def f_X6_needed_0 (κ : gK) (F : Nat)  (l0 : Option Nat) (l1 : Int32) (s : gS) : Option (Int32 × gS) :=
  gB1 (gck s l0 9) fun _ =>
  gB2 (f_X6_current κ F l0  s) fun v2 s1 =>
  gB1 (gck s1 l0 9) fun _ =>
  gB2 (f_X6_ofRoot κ F l0 v2 (0 : Int32) s1) fun v5 s4 =>
  f_X6_needed_12 κ F  F l0 l1 v5 (0 : Int32) s4
set_option maxHeartbeats 4000000 in
theorem w_X6_needed_0 {E : gE} {F z0 n0 : Nat} {r : Int32} {s' : gS}   : ∀ (l0 : Option Nat) (l1 : Int32)  (s : gS), f_X6_needed_0 (gk E) F  l0 l1 s = some (r, s') → W_X6_needed E z0 n0 r s' 0 [(0, vR l0), (1, vI l1)] [] s := by
  intro l0 l1 s hB
  unfold f_X6_needed_0 at hB
  refine gw_aload_n 0 rfl dX6_needed_0 ?_
  refine gw_aload_n 0 rfl dX6_needed_1 ?_
  obtain ⟨u0, hu3, hB⟩ := gB1_some hB
  obtain ⟨v2, s1, hv2, hB⟩ := gB2_some hB
  refine gw_callV (y := yX6_current) (lw_V q2757 q2759 qs50 q143 q2760) hdV_X6_current gcl9 hu3 (As := []) (rest := [vR l0]) (m_X6_current _ _ _ _ hv2) (Nat.le_of_ble_eq_true rfl) (Nat.le_of_ble_eq_true rfl) rfl (Nat.le_of_ble_eq_true rfl) dX6_needed_2 (gCont_i ?_)
  refine gw_iconst (v := (0 : Int32)) (by decide) dX6_needed_5 ?_
  obtain ⟨u0, hu6, hB⟩ := gB1_some hB
  obtain ⟨v5, s4, hv5, hB⟩ := gB2_some hB
  refine gw_callV (y := yX6_ofRoot) (lw_V q2761 q2763 qs51 q143 q2764) hdV_X6_ofRoot gcl9 hu6 (As := [vI v2, vI (0 : Int32)]) (rest := []) (m_X6_ofRoot _ _ _ _ _ _ hv5) (Nat.le_of_ble_eq_true rfl) (Nat.le_of_ble_eq_true rfl) rfl (Nat.le_of_ble_eq_true rfl) dX6_needed_6 (gCont_i ?_)
  refine gw_istore_n (L' := [(2, vI v5), (0, vR l0), (1, vI l1)]) (Nat.le_of_ble_eq_true rfl) rfl dX6_needed_9 ?_
  refine gw_iconst (v := (0 : Int32)) (by decide) dX6_needed_10 ?_
  refine gw_istore_n (L' := [(3, vI (0 : Int32)), (2, vI v5), (0, vR l0), (1, vI l1)]) (Nat.le_of_ble_eq_true rfl) rfl dX6_needed_11 ?_
  exact gw_sub [2, 3, 1, 0] rfl (w_X6_needed_12  F _ _ _ _ _ hB)
noncomputable def f_X6_needed (κ : gK) (F : Nat) (a0 : Option Nat) (a1 : Int32) (s : gS) : Option (Int32 × gS) := f_X6_needed_0 κ F a0 a1 s
theorem m_X6_needed {E : gE} {F : Nat} (a0 : Option Nat) (a1 : Int32) (s : gS) (r : Int32) (s' : gS) (h : f_X6_needed (gk E) F a0 a1 s = some (r, s')) : gCT E 2 yX6_needed (ws_ yX6_needed cX6_needed 5 (some FieldType.int)) [vR a0, vI a1] s (.inl (some (vI r))) s' := by
  refine gCT_of2 (fun h => absurd h (by decide)) (plainFor_of_name (by decide)) (Nat.le_of_ble_eq_true rfl) ?_
  exact gw_sub [0, 1] rfl (w_X6_needed_0 _ _ _ h)
def dkwX6_canBeDug_1 : List UInt8 := [4, 167, 0, 4, 3, 172]
abbrev dktX6_canBeDug_1 : List UInt8 := dkwX6_canBeDug_1 ++ []
def dkwX6_canBeDug_0 : List UInt8 := [42, 27, 3, 182, 0, 53, 5, 160, 0, 21, 42, 27, 6, 182, 0, 53, 42, 2, 182, 0, 56, 163, 0, 7]
abbrev dktX6_canBeDug_0 : List UInt8 := dkwX6_canBeDug_0 ++ dktX6_canBeDug_1
theorem dksX6_canBeDug_0 : cX6_canBeDug.data.toList.drop 0 = dktX6_canBeDug_0 := by decide +kernel
theorem dksX6_canBeDug_1 : cX6_canBeDug.data.toList.drop 24 = dktX6_canBeDug_1 := dk_seg dksX6_canBeDug_0 24 rfl rfl
theorem dX6_canBeDug_0 : decode cX6_canBeDug 0 = .ok (.aload_n 0, 1) := dk_42 (dk_at dksX6_canBeDug_0 0 rfl rfl)
theorem dX6_canBeDug_1 : decode cX6_canBeDug 1 = .ok (.iload_n 1, 1) := dk_27 (dk_at dksX6_canBeDug_0 1 rfl rfl)
theorem dX6_canBeDug_2 : decode cX6_canBeDug 2 = .ok (.iconst 0, 1) := dk_3 (dk_at dksX6_canBeDug_0 2 rfl rfl)
theorem dX6_canBeDug_3 : decode cX6_canBeDug 3 = .ok (.invokevirtual 53, 3) := dk_182 0 53 (dk_at dksX6_canBeDug_0 3 rfl rfl)
theorem dX6_canBeDug_6 : decode cX6_canBeDug 6 = .ok (.iconst 2, 1) := dk_5 (dk_at dksX6_canBeDug_0 6 rfl rfl)
theorem dX6_canBeDug_7 : decode cX6_canBeDug 7 = .ok (.if_icmp .ne 21, 3) := dk_160 0 21 (dk_at dksX6_canBeDug_0 7 rfl rfl)
theorem dX6_canBeDug_10 : decode cX6_canBeDug 10 = .ok (.aload_n 0, 1) := dk_42 (dk_at dksX6_canBeDug_0 10 rfl rfl)
theorem dX6_canBeDug_11 : decode cX6_canBeDug 11 = .ok (.iload_n 1, 1) := dk_27 (dk_at dksX6_canBeDug_0 11 rfl rfl)
theorem dX6_canBeDug_12 : decode cX6_canBeDug 12 = .ok (.iconst 3, 1) := dk_6 (dk_at dksX6_canBeDug_0 12 rfl rfl)
theorem dX6_canBeDug_13 : decode cX6_canBeDug 13 = .ok (.invokevirtual 53, 3) := dk_182 0 53 (dk_at dksX6_canBeDug_0 13 rfl rfl)
theorem dX6_canBeDug_16 : decode cX6_canBeDug 16 = .ok (.aload_n 0, 1) := dk_42 (dk_at dksX6_canBeDug_0 16 rfl rfl)
theorem dX6_canBeDug_17 : decode cX6_canBeDug 17 = .ok (.iconst (-1), 1) := dk_2 (dk_at dksX6_canBeDug_0 17 rfl rfl)
theorem dX6_canBeDug_18 : decode cX6_canBeDug 18 = .ok (.invokevirtual 56, 3) := dk_182 0 56 (dk_at dksX6_canBeDug_0 18 rfl rfl)
theorem dX6_canBeDug_21 : decode cX6_canBeDug 21 = .ok (.if_icmp .gt 7, 3) := dk_163 0 7 (dk_at dksX6_canBeDug_0 21 rfl rfl)
theorem dX6_canBeDug_24 : decode cX6_canBeDug 24 = .ok (.iconst 1, 1) := dk_4 (dk_at dksX6_canBeDug_1 0 rfl rfl)
theorem dX6_canBeDug_25 : decode cX6_canBeDug 25 = .ok (.goto 4, 3) := dk_167 0 4 (dk_at dksX6_canBeDug_1 1 rfl rfl)
theorem dX6_canBeDug_28 : decode cX6_canBeDug 28 = .ok (.iconst 0, 1) := dk_3 (dk_at dksX6_canBeDug_1 4 rfl rfl)
theorem dX6_canBeDug_29 : decode cX6_canBeDug 29 = .ok (.ireturn, 1) := dk_172 (dk_at dksX6_canBeDug_1 5 rfl rfl)
/-! PageGardenModel.canBeDug(I)Z -/
abbrev M_X6_canBeDug (z0 n0 : Nat) (s' : gS) : gM := (RX6, cX6_canBeDug, 2, (some FieldType.boolean), "canBeDug", [], 3, z0, n0, s'.2.1, s'.2.2)
abbrev W_X6_canBeDug (E : gE) (z0 n0 : Nat) (r : Int32) (s' : gS) (pc : Nat) (L : List (Nat × gV)) (st : List gV) (s : gS) : Prop := gW E (M_X6_canBeDug z0 n0 s') (gQm E (M_X6_canBeDug z0 n0 s') (.inl (some (vI r))) s') pc L st s
noncomputable def f_X6_canBeDug_29 (κ : gK) (F : Nat)  (t0 : Int32) (s : gS) : Option (Int32 × gS) :=
  gB1 (gok .boolean t0) fun _ => some (t0, s)
set_option maxHeartbeats 4000000 in
theorem w_X6_canBeDug_29 {E : gE} {F z0 n0 : Nat} {r : Int32} {s' : gS}   : ∀  (t0 : Int32) (s : gS), f_X6_canBeDug_29 (gk E) F  t0 s = some (r, s') → W_X6_canBeDug E z0 n0 r s' 29 [] [vI t0] s := by
  intro t0 s hB
  unfold f_X6_canBeDug_29 at hB
  obtain ⟨u, hu, hB⟩ := gB1_some hB
  obtain ⟨rfl, rfl⟩ := Prod.mk.inj (Option.some.inj hB)
  exact gw_zret rfl hu rfl rfl dX6_canBeDug_29
noncomputable def f_X6_canBeDug_28 (κ : gK) (F : Nat)   (s : gS) : Option (Int32 × gS) :=
  f_X6_canBeDug_29 κ F  (0 : Int32) s
set_option maxHeartbeats 4000000 in
theorem w_X6_canBeDug_28 {E : gE} {F z0 n0 : Nat} {r : Int32} {s' : gS}   : ∀   (s : gS), f_X6_canBeDug_28 (gk E) F   s = some (r, s') → W_X6_canBeDug E z0 n0 r s' 28 [] [] s := by
  intro  s hB
  unfold f_X6_canBeDug_28 at hB
  refine gw_iconst (v := (0 : Int32)) (by decide) dX6_canBeDug_28 ?_
  exact gw_sub [] rfl (w_X6_canBeDug_29  _ _ hB)
noncomputable def f_X6_canBeDug_0 (κ : gK) (F : Nat)  (l0 : Option Nat) (l1 : Int32) (s : gS) : Option (Int32 × gS) :=
  gB1 (gck s l0 9) fun _ =>
  gB2 (f_X6_of κ F l0 l1 (0 : Int32) s) fun v2 s1 =>
  if v2 = (2 : Int32) then
    gB1 (gck s1 l0 9) fun _ =>
    gB2 (f_X6_of κ F l0 l1 (3 : Int32) s1) fun v5 s4 =>
    gB1 (gck s4 l0 9) fun _ =>
    gB2 (f_X6_needed κ F l0 (-1 : Int32) s4) fun v8 s7 =>
    if v8 < v5 then
      f_X6_canBeDug_28 κ F  s7
    else
      f_X6_canBeDug_29 κ F  (1 : Int32) s7
  else
    f_X6_canBeDug_28 κ F  s1
set_option maxHeartbeats 4000000 in
theorem w_X6_canBeDug_0 {E : gE} {F z0 n0 : Nat} {r : Int32} {s' : gS}   : ∀ (l0 : Option Nat) (l1 : Int32)  (s : gS), f_X6_canBeDug_0 (gk E) F  l0 l1 s = some (r, s') → W_X6_canBeDug E z0 n0 r s' 0 [(0, vR l0), (1, vI l1)] [] s := by
  intro l0 l1 s hB
  unfold f_X6_canBeDug_0 at hB
  refine gw_aload_n 0 rfl dX6_canBeDug_0 ?_
  refine gw_iload_n 1 rfl dX6_canBeDug_1 ?_
  refine gw_iconst (v := (0 : Int32)) (by decide) dX6_canBeDug_2 ?_
  obtain ⟨u0, hu3, hB⟩ := gB1_some hB
  obtain ⟨v2, s1, hv2, hB⟩ := gB2_some hB
  refine gw_callV (y := yX6_of) (lw_V q2796 q2798 qs58 q143 q2799) hdV_X6_of gcl9 hu3 (As := [vI l1, vI (0 : Int32)]) (rest := []) (m_X6_of _ _ _ _ _ _ hv2) (Nat.le_of_ble_eq_true rfl) (Nat.le_of_ble_eq_true rfl) rfl (Nat.le_of_ble_eq_true rfl) dX6_canBeDug_3 (gCont_i ?_)
  refine gw_iconst (v := (2 : Int32)) (by decide) dX6_canBeDug_6 ?_
  refine gw_icmp_ne (tgt := 28) dX6_canBeDug_7 (by decide) (fun hcnd => ?_) (fun hcnd => ?_)
  · rw [if_neg hcnd] at hB
    exact gw_sub [] rfl (w_X6_canBeDug_28   _ hB)
  · rw [if_pos hcnd] at hB
    refine gw_aload_n 0 rfl dX6_canBeDug_10 ?_
    refine gw_iload_n 1 rfl dX6_canBeDug_11 ?_
    refine gw_iconst (v := (3 : Int32)) (by decide) dX6_canBeDug_12 ?_
    obtain ⟨u0, hu6, hB⟩ := gB1_some hB
    obtain ⟨v5, s4, hv5, hB⟩ := gB2_some hB
    refine gw_callV (y := yX6_of) (lw_V q2796 q2798 qs58 q143 q2799) hdV_X6_of gcl9 hu6 (As := [vI l1, vI (3 : Int32)]) (rest := []) (m_X6_of _ _ _ _ _ _ hv5) (Nat.le_of_ble_eq_true rfl) (Nat.le_of_ble_eq_true rfl) rfl (Nat.le_of_ble_eq_true rfl) dX6_canBeDug_13 (gCont_i ?_)
    refine gw_aload_n 0 rfl dX6_canBeDug_16 ?_
    refine gw_iconst (v := (-1 : Int32)) (by decide) dX6_canBeDug_17 ?_
    obtain ⟨u0, hu9, hB⟩ := gB1_some hB
    obtain ⟨v8, s7, hv8, hB⟩ := gB2_some hB
    refine gw_callV (y := yX6_needed) (lw_V q2820 q2822 qs64 q143 q2823) hdV_X6_needed gcl9 hu9 (As := [vI (-1 : Int32)]) (rest := [vI v5]) (m_X6_needed _ _ _ _ _ hv8) (Nat.le_of_ble_eq_true rfl) (Nat.le_of_ble_eq_true rfl) rfl (Nat.le_of_ble_eq_true rfl) dX6_canBeDug_18 (gCont_i ?_)
    refine gw_icmp_gt (tgt := 28) dX6_canBeDug_21 (by decide) (fun hcnd => ?_) (fun hcnd => ?_)
    · rw [if_pos hcnd] at hB
      exact gw_sub [] rfl (w_X6_canBeDug_28   _ hB)
    · rw [if_neg hcnd] at hB
      refine gw_iconst (v := (1 : Int32)) (by decide) dX6_canBeDug_24 ?_
      refine gw_goto (tgt := 29) dX6_canBeDug_25 (by decide) ?_
      exact gw_sub [] rfl (w_X6_canBeDug_29  _ _ hB)
noncomputable def f_X6_canBeDug (κ : gK) (F : Nat) (a0 : Option Nat) (a1 : Int32) (s : gS) : Option (Int32 × gS) := f_X6_canBeDug_0 κ F a0 a1 s
theorem m_X6_canBeDug {E : gE} {F : Nat} (a0 : Option Nat) (a1 : Int32) (s : gS) (r : Int32) (s' : gS) (h : f_X6_canBeDug (gk E) F a0 a1 s = some (r, s')) : gCT E 3 yX6_canBeDug (ws_ yX6_canBeDug cX6_canBeDug 2 (some FieldType.boolean)) [vR a0, vI a1] s (.inl (some (vI r))) s' := by
  refine gCT_of2 (fun h => absurd h (by decide)) (plainFor_of_name (by decide)) (Nat.le_of_ble_eq_true rfl) ?_
  exact gw_sub [0, 1] rfl (w_X6_canBeDug_0 _ _ _ h)
def dkwX6_manyToDig_1 : List UInt8 := [182, 0, 53, 154, 0, 7, 4, 167, 0, 4, 3, 96, 60, 132, 2, 1, 167, 255, 222, 27, 172]
abbrev dktX6_manyToDig_1 : List UInt8 := dkwX6_manyToDig_1 ++ []
def dkwX6_manyToDig_0 : List UInt8 := [3, 60, 3, 61, 28, 16, 32, 162, 0, 34, 27, 42, 28, 182, 0, 60, 154, 0, 12, 42, 28, 3]
abbrev dktX6_manyToDig_0 : List UInt8 := dkwX6_manyToDig_0 ++ dktX6_manyToDig_1
theorem dksX6_manyToDig_0 : cX6_manyToDig.data.toList.drop 0 = dktX6_manyToDig_0 := by decide +kernel
theorem dksX6_manyToDig_1 : cX6_manyToDig.data.toList.drop 22 = dktX6_manyToDig_1 := dk_seg dksX6_manyToDig_0 22 rfl rfl
theorem dX6_manyToDig_0 : decode cX6_manyToDig 0 = .ok (.iconst 0, 1) := dk_3 (dk_at dksX6_manyToDig_0 0 rfl rfl)
theorem dX6_manyToDig_1 : decode cX6_manyToDig 1 = .ok (.istore_n 1, 1) := dk_60 (dk_at dksX6_manyToDig_0 1 rfl rfl)
theorem dX6_manyToDig_2 : decode cX6_manyToDig 2 = .ok (.iconst 0, 1) := dk_3 (dk_at dksX6_manyToDig_0 2 rfl rfl)
theorem dX6_manyToDig_3 : decode cX6_manyToDig 3 = .ok (.istore_n 2, 1) := dk_61 (dk_at dksX6_manyToDig_0 3 rfl rfl)
theorem dX6_manyToDig_4 : decode cX6_manyToDig 4 = .ok (.iload_n 2, 1) := dk_28 (dk_at dksX6_manyToDig_0 4 rfl rfl)
theorem dX6_manyToDig_5 : decode cX6_manyToDig 5 = .ok (.bipush 32, 2) := dk_16 32 (dk_at dksX6_manyToDig_0 5 rfl rfl)
theorem dX6_manyToDig_7 : decode cX6_manyToDig 7 = .ok (.if_icmp .ge 34, 3) := dk_162 0 34 (dk_at dksX6_manyToDig_0 7 rfl rfl)
theorem dX6_manyToDig_10 : decode cX6_manyToDig 10 = .ok (.iload_n 1, 1) := dk_27 (dk_at dksX6_manyToDig_0 10 rfl rfl)
theorem dX6_manyToDig_11 : decode cX6_manyToDig 11 = .ok (.aload_n 0, 1) := dk_42 (dk_at dksX6_manyToDig_0 11 rfl rfl)
theorem dX6_manyToDig_12 : decode cX6_manyToDig 12 = .ok (.iload_n 2, 1) := dk_28 (dk_at dksX6_manyToDig_0 12 rfl rfl)
theorem dX6_manyToDig_13 : decode cX6_manyToDig 13 = .ok (.invokevirtual 60, 3) := dk_182 0 60 (dk_at dksX6_manyToDig_0 13 rfl rfl)
theorem dX6_manyToDig_16 : decode cX6_manyToDig 16 = .ok (.ifCond .ne 12, 3) := dk_154 0 12 (dk_at dksX6_manyToDig_0 16 rfl rfl)
theorem dX6_manyToDig_19 : decode cX6_manyToDig 19 = .ok (.aload_n 0, 1) := dk_42 (dk_at dksX6_manyToDig_0 19 rfl rfl)
theorem dX6_manyToDig_20 : decode cX6_manyToDig 20 = .ok (.iload_n 2, 1) := dk_28 (dk_at dksX6_manyToDig_0 20 rfl rfl)
theorem dX6_manyToDig_21 : decode cX6_manyToDig 21 = .ok (.iconst 0, 1) := dk_3 (dk_at dksX6_manyToDig_0 21 rfl rfl)
theorem dX6_manyToDig_22 : decode cX6_manyToDig 22 = .ok (.invokevirtual 53, 3) := dk_182 0 53 (dk_at dksX6_manyToDig_1 0 rfl rfl)
theorem dX6_manyToDig_25 : decode cX6_manyToDig 25 = .ok (.ifCond .ne 7, 3) := dk_154 0 7 (dk_at dksX6_manyToDig_1 3 rfl rfl)
theorem dX6_manyToDig_28 : decode cX6_manyToDig 28 = .ok (.iconst 1, 1) := dk_4 (dk_at dksX6_manyToDig_1 6 rfl rfl)
theorem dX6_manyToDig_29 : decode cX6_manyToDig 29 = .ok (.goto 4, 3) := dk_167 0 4 (dk_at dksX6_manyToDig_1 7 rfl rfl)
theorem dX6_manyToDig_32 : decode cX6_manyToDig 32 = .ok (.iconst 0, 1) := dk_3 (dk_at dksX6_manyToDig_1 10 rfl rfl)
theorem dX6_manyToDig_33 : decode cX6_manyToDig 33 = .ok (.iadd, 1) := dk_96 (dk_at dksX6_manyToDig_1 11 rfl rfl)
theorem dX6_manyToDig_34 : decode cX6_manyToDig 34 = .ok (.istore_n 1, 1) := dk_60 (dk_at dksX6_manyToDig_1 12 rfl rfl)
theorem dX6_manyToDig_35 : decode cX6_manyToDig 35 = .ok (.iinc 2 1, 3) := dk_132 2 1 (dk_at dksX6_manyToDig_1 13 rfl rfl)
theorem dX6_manyToDig_38 : decode cX6_manyToDig 38 = .ok (.goto (-34), 3) := dk_167 255 222 (dk_at dksX6_manyToDig_1 16 rfl rfl)
theorem dX6_manyToDig_41 : decode cX6_manyToDig 41 = .ok (.iload_n 1, 1) := dk_27 (dk_at dksX6_manyToDig_1 19 rfl rfl)
theorem dX6_manyToDig_42 : decode cX6_manyToDig 42 = .ok (.ireturn, 1) := dk_172 (dk_at dksX6_manyToDig_1 20 rfl rfl)
/-! PageGardenModel.manyToDig()I -/
abbrev M_X6_manyToDig (z0 n0 : Nat) (s' : gS) : gM := (RX6, cX6_manyToDig, 3, (some FieldType.int), "manyToDig", [], 4, z0, n0, s'.2.1, s'.2.2)
abbrev W_X6_manyToDig (E : gE) (z0 n0 : Nat) (r : Int32) (s' : gS) (pc : Nat) (L : List (Nat × gV)) (st : List gV) (s : gS) : Prop := gW E (M_X6_manyToDig z0 n0 s') (gQm E (M_X6_manyToDig z0 n0 s') (.inl (some (vI r))) s') pc L st s
noncomputable def f_X6_manyToDig_33 (κ : gK) (F : Nat) (k4 : Option Nat → Int32 → Int32 → gS → Option (Int32 × gS)) (l0 : Option Nat) (l2 : Int32) (t0 : Int32) (t1 : Int32) (s : gS) : Option (Int32 × gS) :=
  k4 l0 (t0 + t1) (l2 + (1 : Int32)) s
set_option maxHeartbeats 4000000 in
theorem w_X6_manyToDig_33 {E : gE} {F z0 n0 : Nat} {r : Int32} {s' : gS} {k4 : Option Nat → Int32 → Int32 → gS → Option (Int32 × gS)} (hk4 : ∀ (l0 : Option Nat) (l1 : Int32) (l2 : Int32) (s : gS), k4 l0 l1 l2 s = some (r, s') → W_X6_manyToDig E z0 n0 r s' 4 [(0, vR l0), (1, vI l1), (2, vI l2)] [] s) : ∀ (l0 : Option Nat) (l2 : Int32) (t0 : Int32) (t1 : Int32) (s : gS), f_X6_manyToDig_33 (gk E) F k4 l0 l2 t0 t1 s = some (r, s') → W_X6_manyToDig E z0 n0 r s' 33 [(0, vR l0), (2, vI l2)] [vI t1, vI t0] s := by
  intro l0 l2 t0 t1 s hB
  unfold f_X6_manyToDig_33 at hB
  refine gw_iadd dX6_manyToDig_33 ?_
  refine gw_istore_n (L' := [(1, vI (t0 + t1)), (0, vR l0), (2, vI l2)]) (Nat.le_of_ble_eq_true rfl) rfl dX6_manyToDig_34 ?_
  refine gw_iinc (w := (1 : Int32)) (L' := [(2, vI (l2 + (1 : Int32))), (1, vI (t0 + t1)), (0, vR l0)]) 2 rfl (by decide) (Nat.le_of_ble_eq_true rfl) rfl dX6_manyToDig_35 ?_
  refine gw_goto (tgt := 4) dX6_manyToDig_38 (by decide) ?_
  exact gw_sub [2, 1, 0] rfl (hk4 _ _ _ _ hB)
noncomputable def f_X6_manyToDig_28 (κ : gK) (F : Nat) (k4 : Option Nat → Int32 → Int32 → gS → Option (Int32 × gS)) (l0 : Option Nat) (l2 : Int32) (t0 : Int32) (s : gS) : Option (Int32 × gS) :=
  f_X6_manyToDig_33 κ F k4 l0 l2 t0 (1 : Int32) s
set_option maxHeartbeats 4000000 in
theorem w_X6_manyToDig_28 {E : gE} {F z0 n0 : Nat} {r : Int32} {s' : gS} {k4 : Option Nat → Int32 → Int32 → gS → Option (Int32 × gS)} (hk4 : ∀ (l0 : Option Nat) (l1 : Int32) (l2 : Int32) (s : gS), k4 l0 l1 l2 s = some (r, s') → W_X6_manyToDig E z0 n0 r s' 4 [(0, vR l0), (1, vI l1), (2, vI l2)] [] s) : ∀ (l0 : Option Nat) (l2 : Int32) (t0 : Int32) (s : gS), f_X6_manyToDig_28 (gk E) F k4 l0 l2 t0 s = some (r, s') → W_X6_manyToDig E z0 n0 r s' 28 [(0, vR l0), (2, vI l2)] [vI t0] s := by
  intro l0 l2 t0 s hB
  unfold f_X6_manyToDig_28 at hB
  refine gw_iconst (v := (1 : Int32)) (by decide) dX6_manyToDig_28 ?_
  refine gw_goto (tgt := 33) dX6_manyToDig_29 (by decide) ?_
  exact gw_sub [0, 1] rfl (w_X6_manyToDig_33 hk4 _ _ _ _ _ hB)
noncomputable def f_X6_manyToDig_4b (κ : gK) (F : Nat) (k4 : Option Nat → Int32 → Int32 → gS → Option (Int32 × gS)) (l0 : Option Nat) (l1 : Int32) (l2 : Int32) (s : gS) : Option (Int32 × gS) :=
  if (32 : Int32) ≤ l2 then
    some (l1, s)
  else
    gB1 (gck s l0 9) fun _ =>
    gB2 (f_X6_canBeDug κ F l0 l2 s) fun v2 s1 =>
    if v2 = 0 then
      gB1 (gck s1 l0 9) fun _ =>
      gB2 (f_X6_of κ F l0 l2 (0 : Int32) s1) fun v5 s4 =>
      if v5 = 0 then
        f_X6_manyToDig_28 κ F k4 l0 l2 l1 s4
      else
        f_X6_manyToDig_33 κ F k4 l0 l2 l1 (0 : Int32) s4
    else
      f_X6_manyToDig_28 κ F k4 l0 l2 l1 s1
noncomputable def f_X6_manyToDig_4 (κ : gK) (F : Nat)  : Nat → Option Nat → Int32 → Int32 → gS → Option (Int32 × gS)
  | 0 => fun _ _ _ _ => none
  | n + 1 => f_X6_manyToDig_4b κ F  (f_X6_manyToDig_4 κ F  n)
set_option maxHeartbeats 4000000 in
theorem w_X6_manyToDig_4b {E : gE} {F z0 n0 : Nat} {r : Int32} {s' : gS} {k4 : Option Nat → Int32 → Int32 → gS → Option (Int32 × gS)} (hk4 : ∀ (l0 : Option Nat) (l1 : Int32) (l2 : Int32) (s : gS), k4 l0 l1 l2 s = some (r, s') → W_X6_manyToDig E z0 n0 r s' 4 [(0, vR l0), (1, vI l1), (2, vI l2)] [] s) : ∀ (l0 : Option Nat) (l1 : Int32) (l2 : Int32)  (s : gS), f_X6_manyToDig_4b (gk E) F k4 l0 l1 l2 s = some (r, s') → W_X6_manyToDig E z0 n0 r s' 4 [(0, vR l0), (1, vI l1), (2, vI l2)] [] s := by
  intro l0 l1 l2 s hB
  unfold f_X6_manyToDig_4b at hB
  refine gw_iload_n 2 rfl dX6_manyToDig_4 ?_
  refine gw_bipush (v := (32 : Int32)) (by decide) dX6_manyToDig_5 ?_
  refine gw_icmp_ge (tgt := 41) dX6_manyToDig_7 (by decide) (fun hcnd => ?_) (fun hcnd => ?_)
  · rw [if_pos hcnd] at hB
    refine gw_iload_n 1 rfl dX6_manyToDig_41 ?_
    obtain ⟨rfl, rfl⟩ := Prod.mk.inj (Option.some.inj hB)
    exact gw_iret rfl rfl rfl dX6_manyToDig_42
  · rw [if_neg hcnd] at hB
    refine gw_iload_n 1 rfl dX6_manyToDig_10 ?_
    refine gw_aload_n 0 rfl dX6_manyToDig_11 ?_
    refine gw_iload_n 2 rfl dX6_manyToDig_12 ?_
    obtain ⟨u0, hu3, hB⟩ := gB1_some hB
    obtain ⟨v2, s1, hv2, hB⟩ := gB2_some hB
    refine gw_callV (y := yX6_canBeDug) (lw_V q2816 q2818 qs63 q143 q2819) hdV_X6_canBeDug gcl9 hu3 (As := [vI l2]) (rest := [vI l1]) (m_X6_canBeDug _ _ _ _ _ hv2) (Nat.le_of_ble_eq_true rfl) (Nat.le_of_ble_eq_true rfl) rfl (Nat.le_of_ble_eq_true rfl) dX6_manyToDig_13 (gCont_i ?_)
    refine gw_if_ne (tgt := 28) dX6_manyToDig_16 (by decide) (fun hcnd => ?_) (fun hcnd => ?_)
    · rw [if_neg hcnd] at hB
      exact gw_sub [0, 2] rfl (w_X6_manyToDig_28 hk4 _ _ _ _ hB)
    · rw [if_pos hcnd] at hB
      refine gw_aload_n 0 rfl dX6_manyToDig_19 ?_
      refine gw_iload_n 2 rfl dX6_manyToDig_20 ?_
      refine gw_iconst (v := (0 : Int32)) (by decide) dX6_manyToDig_21 ?_
      obtain ⟨u0, hu6, hB⟩ := gB1_some hB
      obtain ⟨v5, s4, hv5, hB⟩ := gB2_some hB
      refine gw_callV (y := yX6_of) (lw_V q2796 q2798 qs58 q143 q2799) hdV_X6_of gcl9 hu6 (As := [vI l2, vI (0 : Int32)]) (rest := [vI l1]) (m_X6_of _ _ _ _ _ _ hv5) (Nat.le_of_ble_eq_true rfl) (Nat.le_of_ble_eq_true rfl) rfl (Nat.le_of_ble_eq_true rfl) dX6_manyToDig_22 (gCont_i ?_)
      refine gw_if_ne (tgt := 32) dX6_manyToDig_25 (by decide) (fun hcnd => ?_) (fun hcnd => ?_)
      · rw [if_neg hcnd] at hB
        refine gw_iconst (v := (0 : Int32)) (by decide) dX6_manyToDig_32 ?_
        exact gw_sub [0, 2] rfl (w_X6_manyToDig_33 hk4 _ _ _ _ _ hB)
      · rw [if_pos hcnd] at hB
        exact gw_sub [0, 2] rfl (w_X6_manyToDig_28 hk4 _ _ _ _ hB)
theorem w_X6_manyToDig_4 {E : gE} {F z0 n0 : Nat} {r : Int32} {s' : gS}   : ∀ (n : Nat) (l0 : Option Nat) (l1 : Int32) (l2 : Int32)  (s : gS), f_X6_manyToDig_4 (gk E) F  n l0 l1 l2 s = some (r, s') → W_X6_manyToDig E z0 n0 r s' 4 [(0, vR l0), (1, vI l1), (2, vI l2)] [] s := by
  intro n
  induction n with
  | zero => intro l0 l1 l2 s hB; cases hB
  | succ n ih => intro l0 l1 l2 s hB; exact w_X6_manyToDig_4b ih l0 l1 l2 s hB
noncomputable def f_X6_manyToDig_0 (κ : gK) (F : Nat)  (l0 : Option Nat) (s : gS) : Option (Int32 × gS) :=
  f_X6_manyToDig_4 κ F  F l0 (0 : Int32) (0 : Int32) s
set_option maxHeartbeats 4000000 in
theorem w_X6_manyToDig_0 {E : gE} {F z0 n0 : Nat} {r : Int32} {s' : gS}   : ∀ (l0 : Option Nat)  (s : gS), f_X6_manyToDig_0 (gk E) F  l0 s = some (r, s') → W_X6_manyToDig E z0 n0 r s' 0 [(0, vR l0)] [] s := by
  intro l0 s hB
  unfold f_X6_manyToDig_0 at hB
  refine gw_iconst (v := (0 : Int32)) (by decide) dX6_manyToDig_0 ?_
  refine gw_istore_n (L' := [(1, vI (0 : Int32)), (0, vR l0)]) (Nat.le_of_ble_eq_true rfl) rfl dX6_manyToDig_1 ?_
  refine gw_iconst (v := (0 : Int32)) (by decide) dX6_manyToDig_2 ?_
  refine gw_istore_n (L' := [(2, vI (0 : Int32)), (1, vI (0 : Int32)), (0, vR l0)]) (Nat.le_of_ble_eq_true rfl) rfl dX6_manyToDig_3 ?_
  exact gw_sub [2, 1, 0] rfl (w_X6_manyToDig_4  F _ _ _ _ hB)
noncomputable def f_X6_manyToDig (κ : gK) (F : Nat) (a0 : Option Nat) (s : gS) : Option (Int32 × gS) := f_X6_manyToDig_0 κ F a0 s
theorem m_X6_manyToDig {E : gE} {F : Nat} (a0 : Option Nat) (s : gS) (r : Int32) (s' : gS) (h : f_X6_manyToDig (gk E) F a0 s = some (r, s')) : gCT E 4 yX6_manyToDig (ws_ yX6_manyToDig cX6_manyToDig 3 (some FieldType.int)) [vR a0] s (.inl (some (vI r))) s' := by
  refine gCT_of2 (fun h => absurd h (by decide)) (plainFor_of_name (by decide)) (Nat.le_of_ble_eq_true rfl) ?_
  exact gw_sub [0] rfl (w_X6_manyToDig_0 _ _ h)
def dkwX6_nextNow_4 : List UInt8 := [132, 2, 255, 167, 255, 221, 27, 172]
abbrev dktX6_nextNow_4 : List UInt8 := dkwX6_nextNow_4 ++ []
def dkwX6_nextNow_3 : List UInt8 := [3, 182, 0, 53, 154, 0, 24, 42, 28, 3, 182, 0, 53, 154, 0, 7, 28, 167, 0, 4, 27, 60]
abbrev dktX6_nextNow_3 : List UInt8 := dkwX6_nextNow_3 ++ dktX6_nextNow_4
def dkwX6_nextNow_2 : List UInt8 := [167, 0, 4, 27, 60, 132, 2, 1, 167, 255, 204, 16, 31, 61, 28, 155, 0, 37, 27, 155, 0, 12, 42, 27]
abbrev dktX6_nextNow_2 : List UInt8 := dkwX6_nextNow_2 ++ dktX6_nextNow_3
def dkwX6_nextNow_1 : List UInt8 := [6, 182, 0, 53, 42, 27, 6, 182, 0, 53, 162, 0, 7, 4, 167, 0, 4, 3, 62, 29, 153, 0, 7, 28]
abbrev dktX6_nextNow_1 : List UInt8 := dkwX6_nextNow_1 ++ dktX6_nextNow_2
def dkwX6_nextNow_0 : List UInt8 := [2, 60, 3, 61, 28, 16, 32, 162, 0, 52, 42, 28, 182, 0, 60, 153, 0, 26, 27, 155, 0, 18, 42, 28]
abbrev dktX6_nextNow_0 : List UInt8 := dkwX6_nextNow_0 ++ dktX6_nextNow_1
theorem dksX6_nextNow_0 : cX6_nextNow.data.toList.drop 0 = dktX6_nextNow_0 := by decide +kernel
theorem dksX6_nextNow_1 : cX6_nextNow.data.toList.drop 24 = dktX6_nextNow_1 := dk_seg dksX6_nextNow_0 24 rfl rfl
theorem dksX6_nextNow_2 : cX6_nextNow.data.toList.drop 48 = dktX6_nextNow_2 := dk_seg dksX6_nextNow_1 24 rfl rfl
theorem dksX6_nextNow_3 : cX6_nextNow.data.toList.drop 72 = dktX6_nextNow_3 := dk_seg dksX6_nextNow_2 24 rfl rfl
theorem dksX6_nextNow_4 : cX6_nextNow.data.toList.drop 94 = dktX6_nextNow_4 := dk_seg dksX6_nextNow_3 22 rfl rfl
theorem dX6_nextNow_0 : decode cX6_nextNow 0 = .ok (.iconst (-1), 1) := dk_2 (dk_at dksX6_nextNow_0 0 rfl rfl)
theorem dX6_nextNow_1 : decode cX6_nextNow 1 = .ok (.istore_n 1, 1) := dk_60 (dk_at dksX6_nextNow_0 1 rfl rfl)
theorem dX6_nextNow_2 : decode cX6_nextNow 2 = .ok (.iconst 0, 1) := dk_3 (dk_at dksX6_nextNow_0 2 rfl rfl)
theorem dX6_nextNow_3 : decode cX6_nextNow 3 = .ok (.istore_n 2, 1) := dk_61 (dk_at dksX6_nextNow_0 3 rfl rfl)
theorem dX6_nextNow_4 : decode cX6_nextNow 4 = .ok (.iload_n 2, 1) := dk_28 (dk_at dksX6_nextNow_0 4 rfl rfl)
theorem dX6_nextNow_5 : decode cX6_nextNow 5 = .ok (.bipush 32, 2) := dk_16 32 (dk_at dksX6_nextNow_0 5 rfl rfl)
theorem dX6_nextNow_7 : decode cX6_nextNow 7 = .ok (.if_icmp .ge 52, 3) := dk_162 0 52 (dk_at dksX6_nextNow_0 7 rfl rfl)
theorem dX6_nextNow_10 : decode cX6_nextNow 10 = .ok (.aload_n 0, 1) := dk_42 (dk_at dksX6_nextNow_0 10 rfl rfl)
theorem dX6_nextNow_11 : decode cX6_nextNow 11 = .ok (.iload_n 2, 1) := dk_28 (dk_at dksX6_nextNow_0 11 rfl rfl)
theorem dX6_nextNow_12 : decode cX6_nextNow 12 = .ok (.invokevirtual 60, 3) := dk_182 0 60 (dk_at dksX6_nextNow_0 12 rfl rfl)
theorem dX6_nextNow_15 : decode cX6_nextNow 15 = .ok (.ifCond .eq 26, 3) := dk_153 0 26 (dk_at dksX6_nextNow_0 15 rfl rfl)
theorem dX6_nextNow_18 : decode cX6_nextNow 18 = .ok (.iload_n 1, 1) := dk_27 (dk_at dksX6_nextNow_0 18 rfl rfl)
theorem dX6_nextNow_19 : decode cX6_nextNow 19 = .ok (.ifCond .lt 18, 3) := dk_155 0 18 (dk_at dksX6_nextNow_0 19 rfl rfl)
theorem dX6_nextNow_22 : decode cX6_nextNow 22 = .ok (.aload_n 0, 1) := dk_42 (dk_at dksX6_nextNow_0 22 rfl rfl)
theorem dX6_nextNow_23 : decode cX6_nextNow 23 = .ok (.iload_n 2, 1) := dk_28 (dk_at dksX6_nextNow_0 23 rfl rfl)
theorem dX6_nextNow_24 : decode cX6_nextNow 24 = .ok (.iconst 3, 1) := dk_6 (dk_at dksX6_nextNow_1 0 rfl rfl)
theorem dX6_nextNow_25 : decode cX6_nextNow 25 = .ok (.invokevirtual 53, 3) := dk_182 0 53 (dk_at dksX6_nextNow_1 1 rfl rfl)
theorem dX6_nextNow_28 : decode cX6_nextNow 28 = .ok (.aload_n 0, 1) := dk_42 (dk_at dksX6_nextNow_1 4 rfl rfl)
theorem dX6_nextNow_29 : decode cX6_nextNow 29 = .ok (.iload_n 1, 1) := dk_27 (dk_at dksX6_nextNow_1 5 rfl rfl)
theorem dX6_nextNow_30 : decode cX6_nextNow 30 = .ok (.iconst 3, 1) := dk_6 (dk_at dksX6_nextNow_1 6 rfl rfl)
theorem dX6_nextNow_31 : decode cX6_nextNow 31 = .ok (.invokevirtual 53, 3) := dk_182 0 53 (dk_at dksX6_nextNow_1 7 rfl rfl)
theorem dX6_nextNow_34 : decode cX6_nextNow 34 = .ok (.if_icmp .ge 7, 3) := dk_162 0 7 (dk_at dksX6_nextNow_1 10 rfl rfl)
theorem dX6_nextNow_37 : decode cX6_nextNow 37 = .ok (.iconst 1, 1) := dk_4 (dk_at dksX6_nextNow_1 13 rfl rfl)
theorem dX6_nextNow_38 : decode cX6_nextNow 38 = .ok (.goto 4, 3) := dk_167 0 4 (dk_at dksX6_nextNow_1 14 rfl rfl)
theorem dX6_nextNow_41 : decode cX6_nextNow 41 = .ok (.iconst 0, 1) := dk_3 (dk_at dksX6_nextNow_1 17 rfl rfl)
theorem dX6_nextNow_42 : decode cX6_nextNow 42 = .ok (.istore_n 3, 1) := dk_62 (dk_at dksX6_nextNow_1 18 rfl rfl)
theorem dX6_nextNow_43 : decode cX6_nextNow 43 = .ok (.iload_n 3, 1) := dk_29 (dk_at dksX6_nextNow_1 19 rfl rfl)
theorem dX6_nextNow_44 : decode cX6_nextNow 44 = .ok (.ifCond .eq 7, 3) := dk_153 0 7 (dk_at dksX6_nextNow_1 20 rfl rfl)
theorem dX6_nextNow_47 : decode cX6_nextNow 47 = .ok (.iload_n 2, 1) := dk_28 (dk_at dksX6_nextNow_1 23 rfl rfl)
theorem dX6_nextNow_48 : decode cX6_nextNow 48 = .ok (.goto 4, 3) := dk_167 0 4 (dk_at dksX6_nextNow_2 0 rfl rfl)
theorem dX6_nextNow_51 : decode cX6_nextNow 51 = .ok (.iload_n 1, 1) := dk_27 (dk_at dksX6_nextNow_2 3 rfl rfl)
theorem dX6_nextNow_52 : decode cX6_nextNow 52 = .ok (.istore_n 1, 1) := dk_60 (dk_at dksX6_nextNow_2 4 rfl rfl)
theorem dX6_nextNow_53 : decode cX6_nextNow 53 = .ok (.iinc 2 1, 3) := dk_132 2 1 (dk_at dksX6_nextNow_2 5 rfl rfl)
theorem dX6_nextNow_56 : decode cX6_nextNow 56 = .ok (.goto (-52), 3) := dk_167 255 204 (dk_at dksX6_nextNow_2 8 rfl rfl)
theorem dX6_nextNow_59 : decode cX6_nextNow 59 = .ok (.bipush 31, 2) := dk_16 31 (dk_at dksX6_nextNow_2 11 rfl rfl)
theorem dX6_nextNow_61 : decode cX6_nextNow 61 = .ok (.istore_n 2, 1) := dk_61 (dk_at dksX6_nextNow_2 13 rfl rfl)
theorem dX6_nextNow_62 : decode cX6_nextNow 62 = .ok (.iload_n 2, 1) := dk_28 (dk_at dksX6_nextNow_2 14 rfl rfl)
theorem dX6_nextNow_63 : decode cX6_nextNow 63 = .ok (.ifCond .lt 37, 3) := dk_155 0 37 (dk_at dksX6_nextNow_2 15 rfl rfl)
theorem dX6_nextNow_66 : decode cX6_nextNow 66 = .ok (.iload_n 1, 1) := dk_27 (dk_at dksX6_nextNow_2 18 rfl rfl)
theorem dX6_nextNow_67 : decode cX6_nextNow 67 = .ok (.ifCond .lt 12, 3) := dk_155 0 12 (dk_at dksX6_nextNow_2 19 rfl rfl)
theorem dX6_nextNow_70 : decode cX6_nextNow 70 = .ok (.aload_n 0, 1) := dk_42 (dk_at dksX6_nextNow_2 22 rfl rfl)
theorem dX6_nextNow_71 : decode cX6_nextNow 71 = .ok (.iload_n 1, 1) := dk_27 (dk_at dksX6_nextNow_2 23 rfl rfl)
theorem dX6_nextNow_72 : decode cX6_nextNow 72 = .ok (.iconst 0, 1) := dk_3 (dk_at dksX6_nextNow_3 0 rfl rfl)
theorem dX6_nextNow_73 : decode cX6_nextNow 73 = .ok (.invokevirtual 53, 3) := dk_182 0 53 (dk_at dksX6_nextNow_3 1 rfl rfl)
theorem dX6_nextNow_76 : decode cX6_nextNow 76 = .ok (.ifCond .ne 24, 3) := dk_154 0 24 (dk_at dksX6_nextNow_3 4 rfl rfl)
theorem dX6_nextNow_79 : decode cX6_nextNow 79 = .ok (.aload_n 0, 1) := dk_42 (dk_at dksX6_nextNow_3 7 rfl rfl)
theorem dX6_nextNow_80 : decode cX6_nextNow 80 = .ok (.iload_n 2, 1) := dk_28 (dk_at dksX6_nextNow_3 8 rfl rfl)
theorem dX6_nextNow_81 : decode cX6_nextNow 81 = .ok (.iconst 0, 1) := dk_3 (dk_at dksX6_nextNow_3 9 rfl rfl)
theorem dX6_nextNow_82 : decode cX6_nextNow 82 = .ok (.invokevirtual 53, 3) := dk_182 0 53 (dk_at dksX6_nextNow_3 10 rfl rfl)
theorem dX6_nextNow_85 : decode cX6_nextNow 85 = .ok (.ifCond .ne 7, 3) := dk_154 0 7 (dk_at dksX6_nextNow_3 13 rfl rfl)
theorem dX6_nextNow_88 : decode cX6_nextNow 88 = .ok (.iload_n 2, 1) := dk_28 (dk_at dksX6_nextNow_3 16 rfl rfl)
theorem dX6_nextNow_89 : decode cX6_nextNow 89 = .ok (.goto 4, 3) := dk_167 0 4 (dk_at dksX6_nextNow_3 17 rfl rfl)
theorem dX6_nextNow_92 : decode cX6_nextNow 92 = .ok (.iload_n 1, 1) := dk_27 (dk_at dksX6_nextNow_3 20 rfl rfl)
theorem dX6_nextNow_93 : decode cX6_nextNow 93 = .ok (.istore_n 1, 1) := dk_60 (dk_at dksX6_nextNow_3 21 rfl rfl)
theorem dX6_nextNow_94 : decode cX6_nextNow 94 = .ok (.iinc 2 (-1), 3) := dk_132 2 255 (dk_at dksX6_nextNow_4 0 rfl rfl)
theorem dX6_nextNow_97 : decode cX6_nextNow 97 = .ok (.goto (-35), 3) := dk_167 255 221 (dk_at dksX6_nextNow_4 3 rfl rfl)
theorem dX6_nextNow_100 : decode cX6_nextNow 100 = .ok (.iload_n 1, 1) := dk_27 (dk_at dksX6_nextNow_4 6 rfl rfl)
theorem dX6_nextNow_101 : decode cX6_nextNow 101 = .ok (.ireturn, 1) := dk_172 (dk_at dksX6_nextNow_4 7 rfl rfl)
/-! PageGardenModel.nextNow()I -/
abbrev M_X6_nextNow (z0 n0 : Nat) (s' : gS) : gM := (RX6, cX6_nextNow, 4, (some FieldType.int), "nextNow", [], 4, z0, n0, s'.2.1, s'.2.2)
abbrev W_X6_nextNow (E : gE) (z0 n0 : Nat) (r : Int32) (s' : gS) (pc : Nat) (L : List (Nat × gV)) (st : List gV) (s : gS) : Prop := gW E (M_X6_nextNow z0 n0 s') (gQm E (M_X6_nextNow z0 n0 s') (.inl (some (vI r))) s') pc L st s
noncomputable def f_X6_nextNow_52 (κ : gK) (F : Nat) (k4 : Option Nat → Int32 → Int32 → gS → Option (Int32 × gS)) (l0 : Option Nat) (l2 : Int32) (t0 : Int32) (s : gS) : Option (Int32 × gS) :=
  k4 l0 t0 (l2 + (1 : Int32)) s
set_option maxHeartbeats 4000000 in
theorem w_X6_nextNow_52 {E : gE} {F z0 n0 : Nat} {r : Int32} {s' : gS} {k4 : Option Nat → Int32 → Int32 → gS → Option (Int32 × gS)} (hk4 : ∀ (l0 : Option Nat) (l1 : Int32) (l2 : Int32) (s : gS), k4 l0 l1 l2 s = some (r, s') → W_X6_nextNow E z0 n0 r s' 4 [(0, vR l0), (1, vI l1), (2, vI l2)] [] s) : ∀ (l0 : Option Nat) (l2 : Int32) (t0 : Int32) (s : gS), f_X6_nextNow_52 (gk E) F k4 l0 l2 t0 s = some (r, s') → W_X6_nextNow E z0 n0 r s' 52 [(0, vR l0), (2, vI l2)] [vI t0] s := by
  intro l0 l2 t0 s hB
  unfold f_X6_nextNow_52 at hB
  refine gw_istore_n (L' := [(1, vI t0), (0, vR l0), (2, vI l2)]) (Nat.le_of_ble_eq_true rfl) rfl dX6_nextNow_52 ?_
  refine gw_iinc (w := (1 : Int32)) (L' := [(2, vI (l2 + (1 : Int32))), (1, vI t0), (0, vR l0)]) 2 rfl (by decide) (Nat.le_of_ble_eq_true rfl) rfl dX6_nextNow_53 ?_
  refine gw_goto (tgt := 4) dX6_nextNow_56 (by decide) ?_
  exact gw_sub [2, 1, 0] rfl (hk4 _ _ _ _ hB)
noncomputable def f_X6_nextNow_42 (κ : gK) (F : Nat) (k4 : Option Nat → Int32 → Int32 → gS → Option (Int32 × gS)) (l0 : Option Nat) (l1 : Int32) (l2 : Int32) (t0 : Int32) (s : gS) : Option (Int32 × gS) :=
  if t0 = 0 then
    f_X6_nextNow_52 κ F k4 l0 l2 l1 s
  else
    f_X6_nextNow_52 κ F k4 l0 l2 l2 s
set_option maxHeartbeats 4000000 in
theorem w_X6_nextNow_42 {E : gE} {F z0 n0 : Nat} {r : Int32} {s' : gS} {k4 : Option Nat → Int32 → Int32 → gS → Option (Int32 × gS)} (hk4 : ∀ (l0 : Option Nat) (l1 : Int32) (l2 : Int32) (s : gS), k4 l0 l1 l2 s = some (r, s') → W_X6_nextNow E z0 n0 r s' 4 [(0, vR l0), (1, vI l1), (2, vI l2)] [] s) : ∀ (l0 : Option Nat) (l1 : Int32) (l2 : Int32) (t0 : Int32) (s : gS), f_X6_nextNow_42 (gk E) F k4 l0 l1 l2 t0 s = some (r, s') → W_X6_nextNow E z0 n0 r s' 42 [(0, vR l0), (1, vI l1), (2, vI l2)] [vI t0] s := by
  intro l0 l1 l2 t0 s hB
  unfold f_X6_nextNow_42 at hB
  refine gw_istore_n (L' := [(3, vI t0), (0, vR l0), (1, vI l1), (2, vI l2)]) (Nat.le_of_ble_eq_true rfl) rfl dX6_nextNow_42 ?_
  refine gw_iload_n 0 rfl dX6_nextNow_43 ?_
  refine gw_if_eq (tgt := 51) dX6_nextNow_44 (by decide) (fun hcnd => ?_) (fun hcnd => ?_)
  · rw [if_pos hcnd] at hB
    refine gw_iload_n 2 rfl dX6_nextNow_51 ?_
    exact gw_sub [1, 3] rfl (w_X6_nextNow_52 hk4 _ _ _ _ hB)
  · rw [if_neg hcnd] at hB
    refine gw_iload_n 3 rfl dX6_nextNow_47 ?_
    refine gw_goto (tgt := 52) dX6_nextNow_48 (by decide) ?_
    exact gw_sub [1, 3] rfl (w_X6_nextNow_52 hk4 _ _ _ _ hB)
noncomputable def f_X6_nextNow_37 (κ : gK) (F : Nat) (k4 : Option Nat → Int32 → Int32 → gS → Option (Int32 × gS)) (l0 : Option Nat) (l1 : Int32) (l2 : Int32) (s : gS) : Option (Int32 × gS) :=
  f_X6_nextNow_42 κ F k4 l0 l1 l2 (1 : Int32) s
set_option maxHeartbeats 4000000 in
theorem w_X6_nextNow_37 {E : gE} {F z0 n0 : Nat} {r : Int32} {s' : gS} {k4 : Option Nat → Int32 → Int32 → gS → Option (Int32 × gS)} (hk4 : ∀ (l0 : Option Nat) (l1 : Int32) (l2 : Int32) (s : gS), k4 l0 l1 l2 s = some (r, s') → W_X6_nextNow E z0 n0 r s' 4 [(0, vR l0), (1, vI l1), (2, vI l2)] [] s) : ∀ (l0 : Option Nat) (l1 : Int32) (l2 : Int32)  (s : gS), f_X6_nextNow_37 (gk E) F k4 l0 l1 l2 s = some (r, s') → W_X6_nextNow E z0 n0 r s' 37 [(0, vR l0), (1, vI l1), (2, vI l2)] [] s := by
  intro l0 l1 l2 s hB
  unfold f_X6_nextNow_37 at hB
  refine gw_iconst (v := (1 : Int32)) (by decide) dX6_nextNow_37 ?_
  refine gw_goto (tgt := 42) dX6_nextNow_38 (by decide) ?_
  exact gw_sub [0, 1, 2] rfl (w_X6_nextNow_42 hk4 _ _ _ _ _ hB)
noncomputable def f_X6_nextNow_41 (κ : gK) (F : Nat) (k4 : Option Nat → Int32 → Int32 → gS → Option (Int32 × gS)) (l0 : Option Nat) (l1 : Int32) (l2 : Int32) (s : gS) : Option (Int32 × gS) :=
  f_X6_nextNow_42 κ F k4 l0 l1 l2 (0 : Int32) s
set_option maxHeartbeats 4000000 in
theorem w_X6_nextNow_41 {E : gE} {F z0 n0 : Nat} {r : Int32} {s' : gS} {k4 : Option Nat → Int32 → Int32 → gS → Option (Int32 × gS)} (hk4 : ∀ (l0 : Option Nat) (l1 : Int32) (l2 : Int32) (s : gS), k4 l0 l1 l2 s = some (r, s') → W_X6_nextNow E z0 n0 r s' 4 [(0, vR l0), (1, vI l1), (2, vI l2)] [] s) : ∀ (l0 : Option Nat) (l1 : Int32) (l2 : Int32)  (s : gS), f_X6_nextNow_41 (gk E) F k4 l0 l1 l2 s = some (r, s') → W_X6_nextNow E z0 n0 r s' 41 [(0, vR l0), (1, vI l1), (2, vI l2)] [] s := by
  intro l0 l1 l2 s hB
  unfold f_X6_nextNow_41 at hB
  refine gw_iconst (v := (0 : Int32)) (by decide) dX6_nextNow_41 ?_
  exact gw_sub [0, 1, 2] rfl (w_X6_nextNow_42 hk4 _ _ _ _ _ hB)
noncomputable def f_X6_nextNow_93 (κ : gK) (F : Nat) (k62 : Option Nat → Int32 → Int32 → gS → Option (Int32 × gS)) (l0 : Option Nat) (l2 : Int32) (t0 : Int32) (s : gS) : Option (Int32 × gS) :=
  k62 l0 t0 (l2 + (-1 : Int32)) s
set_option maxHeartbeats 4000000 in
theorem w_X6_nextNow_93 {E : gE} {F z0 n0 : Nat} {r : Int32} {s' : gS} {k62 : Option Nat → Int32 → Int32 → gS → Option (Int32 × gS)} (hk62 : ∀ (l0 : Option Nat) (l1 : Int32) (l2 : Int32) (s : gS), k62 l0 l1 l2 s = some (r, s') → W_X6_nextNow E z0 n0 r s' 62 [(0, vR l0), (1, vI l1), (2, vI l2)] [] s) : ∀ (l0 : Option Nat) (l2 : Int32) (t0 : Int32) (s : gS), f_X6_nextNow_93 (gk E) F k62 l0 l2 t0 s = some (r, s') → W_X6_nextNow E z0 n0 r s' 93 [(0, vR l0), (2, vI l2)] [vI t0] s := by
  intro l0 l2 t0 s hB
  unfold f_X6_nextNow_93 at hB
  refine gw_istore_n (L' := [(1, vI t0), (0, vR l0), (2, vI l2)]) (Nat.le_of_ble_eq_true rfl) rfl dX6_nextNow_93 ?_
  refine gw_iinc (w := (-1 : Int32)) (L' := [(2, vI (l2 + (-1 : Int32))), (1, vI t0), (0, vR l0)]) 2 rfl (by decide) (Nat.le_of_ble_eq_true rfl) rfl dX6_nextNow_94 ?_
  refine gw_goto (tgt := 62) dX6_nextNow_97 (by decide) ?_
  exact gw_sub [2, 1, 0] rfl (hk62 _ _ _ _ hB)
noncomputable def f_X6_nextNow_79 (κ : gK) (F : Nat) (k62 : Option Nat → Int32 → Int32 → gS → Option (Int32 × gS)) (l0 : Option Nat) (l1 : Int32) (l2 : Int32) (s : gS) : Option (Int32 × gS) :=
  gB1 (gck s l0 9) fun _ =>
  gB2 (f_X6_of κ F l0 l2 (0 : Int32) s) fun v2 s1 =>
  if v2 = 0 then
    f_X6_nextNow_93 κ F k62 l0 l2 l2 s1
  else
    f_X6_nextNow_93 κ F k62 l0 l2 l1 s1
set_option maxHeartbeats 4000000 in
theorem w_X6_nextNow_79 {E : gE} {F z0 n0 : Nat} {r : Int32} {s' : gS} {k62 : Option Nat → Int32 → Int32 → gS → Option (Int32 × gS)} (hk62 : ∀ (l0 : Option Nat) (l1 : Int32) (l2 : Int32) (s : gS), k62 l0 l1 l2 s = some (r, s') → W_X6_nextNow E z0 n0 r s' 62 [(0, vR l0), (1, vI l1), (2, vI l2)] [] s) : ∀ (l0 : Option Nat) (l1 : Int32) (l2 : Int32)  (s : gS), f_X6_nextNow_79 (gk E) F k62 l0 l1 l2 s = some (r, s') → W_X6_nextNow E z0 n0 r s' 79 [(0, vR l0), (1, vI l1), (2, vI l2)] [] s := by
  intro l0 l1 l2 s hB
  unfold f_X6_nextNow_79 at hB
  refine gw_aload_n 0 rfl dX6_nextNow_79 ?_
  refine gw_iload_n 2 rfl dX6_nextNow_80 ?_
  refine gw_iconst (v := (0 : Int32)) (by decide) dX6_nextNow_81 ?_
  obtain ⟨u0, hu3, hB⟩ := gB1_some hB
  obtain ⟨v2, s1, hv2, hB⟩ := gB2_some hB
  refine gw_callV (y := yX6_of) (lw_V q2796 q2798 qs58 q143 q2799) hdV_X6_of gcl9 hu3 (As := [vI l2, vI (0 : Int32)]) (rest := []) (m_X6_of _ _ _ _ _ _ hv2) (Nat.le_of_ble_eq_true rfl) (Nat.le_of_ble_eq_true rfl) rfl (Nat.le_of_ble_eq_true rfl) dX6_nextNow_82 (gCont_i ?_)
  refine gw_if_ne (tgt := 92) dX6_nextNow_85 (by decide) (fun hcnd => ?_) (fun hcnd => ?_)
  · rw [if_neg hcnd] at hB
    refine gw_iload_n 1 rfl dX6_nextNow_92 ?_
    exact gw_sub [0, 2] rfl (w_X6_nextNow_93 hk62 _ _ _ _ hB)
  · rw [if_pos hcnd] at hB
    refine gw_iload_n 2 rfl dX6_nextNow_88 ?_
    refine gw_goto (tgt := 93) dX6_nextNow_89 (by decide) ?_
    exact gw_sub [0, 2] rfl (w_X6_nextNow_93 hk62 _ _ _ _ hB)
noncomputable def f_X6_nextNow_100 (κ : gK) (F : Nat)  (l1 : Int32) (s : gS) : Option (Int32 × gS) :=
  some (l1, s)
set_option maxHeartbeats 4000000 in
theorem w_X6_nextNow_100 {E : gE} {F z0 n0 : Nat} {r : Int32} {s' : gS}   : ∀ (l1 : Int32)  (s : gS), f_X6_nextNow_100 (gk E) F  l1 s = some (r, s') → W_X6_nextNow E z0 n0 r s' 100 [(1, vI l1)] [] s := by
  intro l1 s hB
  unfold f_X6_nextNow_100 at hB
  refine gw_iload_n 0 rfl dX6_nextNow_100 ?_
  obtain ⟨rfl, rfl⟩ := Prod.mk.inj (Option.some.inj hB)
  exact gw_iret rfl rfl rfl dX6_nextNow_101
noncomputable def f_X6_nextNow_62b (κ : gK) (F : Nat) (k62 : Option Nat → Int32 → Int32 → gS → Option (Int32 × gS)) (l0 : Option Nat) (l1 : Int32) (l2 : Int32) (s : gS) : Option (Int32 × gS) :=
  if l2 < 0 then
    f_X6_nextNow_100 κ F  l1 s
  else
    if l1 < 0 then
      f_X6_nextNow_79 κ F k62 l0 l1 l2 s
    else
      gB1 (gck s l0 9) fun _ =>
      gB2 (f_X6_of κ F l0 l1 (0 : Int32) s) fun v2 s1 =>
      if v2 = 0 then
        f_X6_nextNow_79 κ F k62 l0 l1 l2 s1
      else
        f_X6_nextNow_100 κ F  l1 s1
noncomputable def f_X6_nextNow_62 (κ : gK) (F : Nat)  : Nat → Option Nat → Int32 → Int32 → gS → Option (Int32 × gS)
  | 0 => fun _ _ _ _ => none
  | n + 1 => f_X6_nextNow_62b κ F  (f_X6_nextNow_62 κ F  n)
set_option maxHeartbeats 4000000 in
theorem w_X6_nextNow_62b {E : gE} {F z0 n0 : Nat} {r : Int32} {s' : gS} {k62 : Option Nat → Int32 → Int32 → gS → Option (Int32 × gS)} (hk62 : ∀ (l0 : Option Nat) (l1 : Int32) (l2 : Int32) (s : gS), k62 l0 l1 l2 s = some (r, s') → W_X6_nextNow E z0 n0 r s' 62 [(0, vR l0), (1, vI l1), (2, vI l2)] [] s) : ∀ (l0 : Option Nat) (l1 : Int32) (l2 : Int32)  (s : gS), f_X6_nextNow_62b (gk E) F k62 l0 l1 l2 s = some (r, s') → W_X6_nextNow E z0 n0 r s' 62 [(0, vR l0), (1, vI l1), (2, vI l2)] [] s := by
  intro l0 l1 l2 s hB
  unfold f_X6_nextNow_62b at hB
  refine gw_iload_n 2 rfl dX6_nextNow_62 ?_
  refine gw_if_lt (tgt := 100) dX6_nextNow_63 (by decide) (fun hcnd => ?_) (fun hcnd => ?_)
  · rw [if_pos hcnd] at hB
    exact gw_sub [1] rfl (w_X6_nextNow_100  _ _ hB)
  · rw [if_neg hcnd] at hB
    refine gw_iload_n 1 rfl dX6_nextNow_66 ?_
    refine gw_if_lt (tgt := 79) dX6_nextNow_67 (by decide) (fun hcnd => ?_) (fun hcnd => ?_)
    · rw [if_pos hcnd] at hB
      exact gw_sub [0, 1, 2] rfl (w_X6_nextNow_79 hk62 _ _ _ _ hB)
    · rw [if_neg hcnd] at hB
      refine gw_aload_n 0 rfl dX6_nextNow_70 ?_
      refine gw_iload_n 1 rfl dX6_nextNow_71 ?_
      refine gw_iconst (v := (0 : Int32)) (by decide) dX6_nextNow_72 ?_
      obtain ⟨u0, hu3, hB⟩ := gB1_some hB
      obtain ⟨v2, s1, hv2, hB⟩ := gB2_some hB
      refine gw_callV (y := yX6_of) (lw_V q2796 q2798 qs58 q143 q2799) hdV_X6_of gcl9 hu3 (As := [vI l1, vI (0 : Int32)]) (rest := []) (m_X6_of _ _ _ _ _ _ hv2) (Nat.le_of_ble_eq_true rfl) (Nat.le_of_ble_eq_true rfl) rfl (Nat.le_of_ble_eq_true rfl) dX6_nextNow_73 (gCont_i ?_)
      refine gw_if_ne (tgt := 100) dX6_nextNow_76 (by decide) (fun hcnd => ?_) (fun hcnd => ?_)
      · rw [if_neg hcnd] at hB
        exact gw_sub [1] rfl (w_X6_nextNow_100  _ _ hB)
      · rw [if_pos hcnd] at hB
        exact gw_sub [0, 1, 2] rfl (w_X6_nextNow_79 hk62 _ _ _ _ hB)
theorem w_X6_nextNow_62 {E : gE} {F z0 n0 : Nat} {r : Int32} {s' : gS}   : ∀ (n : Nat) (l0 : Option Nat) (l1 : Int32) (l2 : Int32)  (s : gS), f_X6_nextNow_62 (gk E) F  n l0 l1 l2 s = some (r, s') → W_X6_nextNow E z0 n0 r s' 62 [(0, vR l0), (1, vI l1), (2, vI l2)] [] s := by
  intro n
  induction n with
  | zero => intro l0 l1 l2 s hB; cases hB
  | succ n ih => intro l0 l1 l2 s hB; exact w_X6_nextNow_62b ih l0 l1 l2 s hB
noncomputable def f_X6_nextNow_4b (κ : gK) (F : Nat) (k4 : Option Nat → Int32 → Int32 → gS → Option (Int32 × gS)) (l0 : Option Nat) (l1 : Int32) (l2 : Int32) (s : gS) : Option (Int32 × gS) :=
  if (32 : Int32) ≤ l2 then
    f_X6_nextNow_62 κ F  F l0 l1 (31 : Int32) s
  else
    gB1 (gck s l0 9) fun _ =>
    gB2 (f_X6_canBeDug κ F l0 l2 s) fun v2 s1 =>
    if v2 = 0 then
      f_X6_nextNow_41 κ F k4 l0 l1 l2 s1
    else
      if l1 < 0 then
        f_X6_nextNow_37 κ F k4 l0 l1 l2 s1
      else
        gB1 (gck s1 l0 9) fun _ =>
        gB2 (f_X6_of κ F l0 l2 (3 : Int32) s1) fun v5 s4 =>
        gB1 (gck s4 l0 9) fun _ =>
        gB2 (f_X6_of κ F l0 l1 (3 : Int32) s4) fun v8 s7 =>
        if v8 ≤ v5 then
          f_X6_nextNow_41 κ F k4 l0 l1 l2 s7
        else
          f_X6_nextNow_37 κ F k4 l0 l1 l2 s7
noncomputable def f_X6_nextNow_4 (κ : gK) (F : Nat)  : Nat → Option Nat → Int32 → Int32 → gS → Option (Int32 × gS)
  | 0 => fun _ _ _ _ => none
  | n + 1 => f_X6_nextNow_4b κ F  (f_X6_nextNow_4 κ F  n)
set_option maxHeartbeats 4000000 in
theorem w_X6_nextNow_4b {E : gE} {F z0 n0 : Nat} {r : Int32} {s' : gS} {k4 : Option Nat → Int32 → Int32 → gS → Option (Int32 × gS)} (hk4 : ∀ (l0 : Option Nat) (l1 : Int32) (l2 : Int32) (s : gS), k4 l0 l1 l2 s = some (r, s') → W_X6_nextNow E z0 n0 r s' 4 [(0, vR l0), (1, vI l1), (2, vI l2)] [] s) : ∀ (l0 : Option Nat) (l1 : Int32) (l2 : Int32)  (s : gS), f_X6_nextNow_4b (gk E) F k4 l0 l1 l2 s = some (r, s') → W_X6_nextNow E z0 n0 r s' 4 [(0, vR l0), (1, vI l1), (2, vI l2)] [] s := by
  intro l0 l1 l2 s hB
  unfold f_X6_nextNow_4b at hB
  refine gw_iload_n 2 rfl dX6_nextNow_4 ?_
  refine gw_bipush (v := (32 : Int32)) (by decide) dX6_nextNow_5 ?_
  refine gw_icmp_ge (tgt := 59) dX6_nextNow_7 (by decide) (fun hcnd => ?_) (fun hcnd => ?_)
  · rw [if_pos hcnd] at hB
    refine gw_bipush (v := (31 : Int32)) (by decide) dX6_nextNow_59 ?_
    refine gw_istore_n (L' := [(2, vI (31 : Int32)), (0, vR l0), (1, vI l1)]) (Nat.le_of_ble_eq_true rfl) rfl dX6_nextNow_61 ?_
    exact gw_sub [1, 2, 0] rfl (w_X6_nextNow_62  F _ _ _ _ hB)
  · rw [if_neg hcnd] at hB
    refine gw_aload_n 0 rfl dX6_nextNow_10 ?_
    refine gw_iload_n 2 rfl dX6_nextNow_11 ?_
    obtain ⟨u0, hu3, hB⟩ := gB1_some hB
    obtain ⟨v2, s1, hv2, hB⟩ := gB2_some hB
    refine gw_callV (y := yX6_canBeDug) (lw_V q2816 q2818 qs63 q143 q2819) hdV_X6_canBeDug gcl9 hu3 (As := [vI l2]) (rest := []) (m_X6_canBeDug _ _ _ _ _ hv2) (Nat.le_of_ble_eq_true rfl) (Nat.le_of_ble_eq_true rfl) rfl (Nat.le_of_ble_eq_true rfl) dX6_nextNow_12 (gCont_i ?_)
    refine gw_if_eq (tgt := 41) dX6_nextNow_15 (by decide) (fun hcnd => ?_) (fun hcnd => ?_)
    · rw [if_pos hcnd] at hB
      exact gw_sub [0, 1, 2] rfl (w_X6_nextNow_41 hk4 _ _ _ _ hB)
    · rw [if_neg hcnd] at hB
      refine gw_iload_n 1 rfl dX6_nextNow_18 ?_
      refine gw_if_lt (tgt := 37) dX6_nextNow_19 (by decide) (fun hcnd => ?_) (fun hcnd => ?_)
      · rw [if_pos hcnd] at hB
        exact gw_sub [0, 1, 2] rfl (w_X6_nextNow_37 hk4 _ _ _ _ hB)
      · rw [if_neg hcnd] at hB
        refine gw_aload_n 0 rfl dX6_nextNow_22 ?_
        refine gw_iload_n 2 rfl dX6_nextNow_23 ?_
        refine gw_iconst (v := (3 : Int32)) (by decide) dX6_nextNow_24 ?_
        obtain ⟨u0, hu6, hB⟩ := gB1_some hB
        obtain ⟨v5, s4, hv5, hB⟩ := gB2_some hB
        refine gw_callV (y := yX6_of) (lw_V q2796 q2798 qs58 q143 q2799) hdV_X6_of gcl9 hu6 (As := [vI l2, vI (3 : Int32)]) (rest := []) (m_X6_of _ _ _ _ _ _ hv5) (Nat.le_of_ble_eq_true rfl) (Nat.le_of_ble_eq_true rfl) rfl (Nat.le_of_ble_eq_true rfl) dX6_nextNow_25 (gCont_i ?_)
        refine gw_aload_n 0 rfl dX6_nextNow_28 ?_
        refine gw_iload_n 1 rfl dX6_nextNow_29 ?_
        refine gw_iconst (v := (3 : Int32)) (by decide) dX6_nextNow_30 ?_
        obtain ⟨u0, hu9, hB⟩ := gB1_some hB
        obtain ⟨v8, s7, hv8, hB⟩ := gB2_some hB
        refine gw_callV (y := yX6_of) (lw_V q2796 q2798 qs58 q143 q2799) hdV_X6_of gcl9 hu9 (As := [vI l1, vI (3 : Int32)]) (rest := [vI v5]) (m_X6_of _ _ _ _ _ _ hv8) (Nat.le_of_ble_eq_true rfl) (Nat.le_of_ble_eq_true rfl) rfl (Nat.le_of_ble_eq_true rfl) dX6_nextNow_31 (gCont_i ?_)
        refine gw_icmp_ge (tgt := 41) dX6_nextNow_34 (by decide) (fun hcnd => ?_) (fun hcnd => ?_)
        · rw [if_pos hcnd] at hB
          exact gw_sub [0, 1, 2] rfl (w_X6_nextNow_41 hk4 _ _ _ _ hB)
        · rw [if_neg hcnd] at hB
          exact gw_sub [0, 1, 2] rfl (w_X6_nextNow_37 hk4 _ _ _ _ hB)
theorem w_X6_nextNow_4 {E : gE} {F z0 n0 : Nat} {r : Int32} {s' : gS}   : ∀ (n : Nat) (l0 : Option Nat) (l1 : Int32) (l2 : Int32)  (s : gS), f_X6_nextNow_4 (gk E) F  n l0 l1 l2 s = some (r, s') → W_X6_nextNow E z0 n0 r s' 4 [(0, vR l0), (1, vI l1), (2, vI l2)] [] s := by
  intro n
  induction n with
  | zero => intro l0 l1 l2 s hB; cases hB
  | succ n ih => intro l0 l1 l2 s hB; exact w_X6_nextNow_4b ih l0 l1 l2 s hB
noncomputable def f_X6_nextNow_0 (κ : gK) (F : Nat)  (l0 : Option Nat) (s : gS) : Option (Int32 × gS) :=
  f_X6_nextNow_4 κ F  F l0 (-1 : Int32) (0 : Int32) s
set_option maxHeartbeats 4000000 in
theorem w_X6_nextNow_0 {E : gE} {F z0 n0 : Nat} {r : Int32} {s' : gS}   : ∀ (l0 : Option Nat)  (s : gS), f_X6_nextNow_0 (gk E) F  l0 s = some (r, s') → W_X6_nextNow E z0 n0 r s' 0 [(0, vR l0)] [] s := by
  intro l0 s hB
  unfold f_X6_nextNow_0 at hB
  refine gw_iconst (v := (-1 : Int32)) (by decide) dX6_nextNow_0 ?_
  refine gw_istore_n (L' := [(1, vI (-1 : Int32)), (0, vR l0)]) (Nat.le_of_ble_eq_true rfl) rfl dX6_nextNow_1 ?_
  refine gw_iconst (v := (0 : Int32)) (by decide) dX6_nextNow_2 ?_
  refine gw_istore_n (L' := [(2, vI (0 : Int32)), (1, vI (-1 : Int32)), (0, vR l0)]) (Nat.le_of_ble_eq_true rfl) rfl dX6_nextNow_3 ?_
  exact gw_sub [2, 1, 0] rfl (w_X6_nextNow_4  F _ _ _ _ hB)
noncomputable def f_X6_nextNow (κ : gK) (F : Nat) (a0 : Option Nat) (s : gS) : Option (Int32 × gS) := f_X6_nextNow_0 κ F a0 s
theorem m_X6_nextNow {E : gE} {F : Nat} (a0 : Option Nat) (s : gS) (r : Int32) (s' : gS) (h : f_X6_nextNow (gk E) F a0 s = some (r, s')) : gCT E 4 yX6_nextNow (ws_ yX6_nextNow cX6_nextNow 4 (some FieldType.int)) [vR a0] s (.inl (some (vI r))) s' := by
  refine gCT_of2 (fun h => absurd h (by decide)) (plainFor_of_name (by decide)) (Nat.le_of_ble_eq_true rfl) ?_
  exact gw_sub [0] rfl (w_X6_nextNow_0 _ _ h)
def dkwX6_lay_0 : List UInt8 := [42, 180, 0, 7, 3, 16, 14, 27, 104, 96, 28, 96, 29, 79, 177]
abbrev dktX6_lay_0 : List UInt8 := dkwX6_lay_0 ++ []
theorem dksX6_lay_0 : cX6_lay.data.toList.drop 0 = dktX6_lay_0 := by decide +kernel
theorem dX6_lay_0 : decode cX6_lay 0 = .ok (.aload_n 0, 1) := dk_42 (dk_at dksX6_lay_0 0 rfl rfl)
theorem dX6_lay_1 : decode cX6_lay 1 = .ok (.getfield 7, 3) := dk_180 0 7 (dk_at dksX6_lay_0 1 rfl rfl)
theorem dX6_lay_4 : decode cX6_lay 4 = .ok (.iconst 0, 1) := dk_3 (dk_at dksX6_lay_0 4 rfl rfl)
theorem dX6_lay_5 : decode cX6_lay 5 = .ok (.bipush 14, 2) := dk_16 14 (dk_at dksX6_lay_0 5 rfl rfl)
theorem dX6_lay_7 : decode cX6_lay 7 = .ok (.iload_n 1, 1) := dk_27 (dk_at dksX6_lay_0 7 rfl rfl)
theorem dX6_lay_8 : decode cX6_lay 8 = .ok (.imul, 1) := dk_104 (dk_at dksX6_lay_0 8 rfl rfl)
theorem dX6_lay_9 : decode cX6_lay 9 = .ok (.iadd, 1) := dk_96 (dk_at dksX6_lay_0 9 rfl rfl)
theorem dX6_lay_10 : decode cX6_lay 10 = .ok (.iload_n 2, 1) := dk_28 (dk_at dksX6_lay_0 10 rfl rfl)
theorem dX6_lay_11 : decode cX6_lay 11 = .ok (.iadd, 1) := dk_96 (dk_at dksX6_lay_0 11 rfl rfl)
theorem dX6_lay_12 : decode cX6_lay 12 = .ok (.iload_n 3, 1) := dk_29 (dk_at dksX6_lay_0 12 rfl rfl)
theorem dX6_lay_13 : decode cX6_lay 13 = .ok (.iastore, 1) := dk_79 (dk_at dksX6_lay_0 13 rfl rfl)
theorem dX6_lay_14 : decode cX6_lay 14 = .ok (.return_, 1) := dk_177 (dk_at dksX6_lay_0 14 rfl rfl)
/-! PageGardenModel.lay(III)V -/
abbrev M_X6_lay (z0 n0 : Nat) (s' : gS) : gM := (RX6, cX6_lay, 4, none, "lay", [], 1, z0, n0, s'.2.1, s'.2.2)
abbrev W_X6_lay (E : gE) (z0 n0 : Nat) (r : Unit) (s' : gS) (pc : Nat) (L : List (Nat × gV)) (st : List gV) (s : gS) : Prop := gW E (M_X6_lay z0 n0 s') (gQm E (M_X6_lay z0 n0 s') (.inl none) s') pc L st s
noncomputable def f_X6_lay_0 (κ : gK) (F : Nat)  (l0 : Option Nat) (l1 : Int32) (l2 : Int32) (l3 : Int32) (s : gS) : Option (Unit × gS) :=
  gB1 (gfR s l0 9 0) fun v1 =>
  gB1 (gsI κ s v1 (((0 : Int32) + ((14 : Int32) * l1)) + l2) l3) fun s2 =>
  some ((), s2)
set_option maxHeartbeats 4000000 in
theorem w_X6_lay_0 {E : gE} {F z0 n0 : Nat} {r : Unit} {s' : gS}   : ∀ (l0 : Option Nat) (l1 : Int32) (l2 : Int32) (l3 : Int32)  (s : gS), f_X6_lay_0 (gk E) F  l0 l1 l2 l3 s = some (r, s') → W_X6_lay E z0 n0 r s' 0 [(0, vR l0), (1, vI l1), (2, vI l2), (3, vI l3)] [] s := by
  intro l0 l1 l2 l3 s hB
  unfold f_X6_lay_0 at hB
  refine gw_aload_n 0 rfl dX6_lay_0 ?_
  obtain ⟨v1, hv1, hB⟩ := gB1_some hB
  refine gw_getf (C := RX6) (T := TX6) (N := 13) (k := 0) gcl9 (by decide) in_X6 q2694 (gfR_spec hv1) dX6_lay_1 ?_
  refine gw_iconst (v := (0 : Int32)) (by decide) dX6_lay_4 ?_
  refine gw_bipush (v := (14 : Int32)) (by decide) dX6_lay_5 ?_
  refine gw_iload_n 1 rfl dX6_lay_7 ?_
  refine gw_imul dX6_lay_8 ?_
  refine gw_iadd dX6_lay_9 ?_
  refine gw_iload_n 2 rfl dX6_lay_10 ?_
  refine gw_iadd dX6_lay_11 ?_
  refine gw_iload_n 3 rfl dX6_lay_12 ?_
  obtain ⟨s2, hs2, hB⟩ := gB1_some hB
  refine gw_iastore hs2 dX6_lay_13 ?_
  obtain ⟨rfl, rfl⟩ := Prod.mk.inj (Option.some.inj hB)
  exact gw_vret rfl rfl rfl dX6_lay_14
noncomputable def f_X6_lay (κ : gK) (F : Nat) (a0 : Option Nat) (a1 : Int32) (a2 : Int32) (a3 : Int32) (s : gS) : Option (Unit × gS) := f_X6_lay_0 κ F a0 a1 a2 a3 s
theorem m_X6_lay {E : gE} {F : Nat} (a0 : Option Nat) (a1 : Int32) (a2 : Int32) (a3 : Int32) (s : gS) (r : Unit) (s' : gS) (h : f_X6_lay (gk E) F a0 a1 a2 a3 s = some (r, s')) : gCT E 1 yX6_lay (ws_ yX6_lay cX6_lay 4 none) [vR a0, vI a1, vI a2, vI a3] s (.inl none) s' := by
  refine gCT_of2 (fun h => absurd h (by decide)) (plainFor_of_name (by decide)) (Nat.le_of_ble_eq_true rfl) ?_
  exact gw_sub [0, 1, 2, 3] rfl (w_X6_lay_0 _ _ _ _ _ h)
def dkwX6_dig_2 : List UInt8 := [28, 172]
abbrev dktX6_dig_2 : List UInt8 := dkwX6_dig_2 ++ []
def dkwX6_dig_1 : List UInt8 := [182, 0, 67, 42, 28, 6, 3, 182, 0, 67, 42, 28, 7, 4, 182, 0, 67, 42, 28, 8, 3, 182, 0, 67]
abbrev dktX6_dig_1 : List UInt8 := dkwX6_dig_1 ++ dktX6_dig_2
def dkwX6_dig_0 : List UInt8 := [42, 182, 0, 64, 61, 42, 28, 3, 4, 182, 0, 67, 42, 28, 4, 27, 182, 0, 67, 42, 28, 5, 3]
abbrev dktX6_dig_0 : List UInt8 := dkwX6_dig_0 ++ dktX6_dig_1
theorem dksX6_dig_0 : cX6_dig.data.toList.drop 0 = dktX6_dig_0 := by decide +kernel
theorem dksX6_dig_1 : cX6_dig.data.toList.drop 23 = dktX6_dig_1 := dk_seg dksX6_dig_0 23 rfl rfl
theorem dksX6_dig_2 : cX6_dig.data.toList.drop 47 = dktX6_dig_2 := dk_seg dksX6_dig_1 24 rfl rfl
theorem dX6_dig_0 : decode cX6_dig 0 = .ok (.aload_n 0, 1) := dk_42 (dk_at dksX6_dig_0 0 rfl rfl)
theorem dX6_dig_1 : decode cX6_dig 1 = .ok (.invokevirtual 64, 3) := dk_182 0 64 (dk_at dksX6_dig_0 1 rfl rfl)
theorem dX6_dig_4 : decode cX6_dig 4 = .ok (.istore_n 2, 1) := dk_61 (dk_at dksX6_dig_0 4 rfl rfl)
theorem dX6_dig_5 : decode cX6_dig 5 = .ok (.aload_n 0, 1) := dk_42 (dk_at dksX6_dig_0 5 rfl rfl)
theorem dX6_dig_6 : decode cX6_dig 6 = .ok (.iload_n 2, 1) := dk_28 (dk_at dksX6_dig_0 6 rfl rfl)
theorem dX6_dig_7 : decode cX6_dig 7 = .ok (.iconst 0, 1) := dk_3 (dk_at dksX6_dig_0 7 rfl rfl)
theorem dX6_dig_8 : decode cX6_dig 8 = .ok (.iconst 1, 1) := dk_4 (dk_at dksX6_dig_0 8 rfl rfl)
theorem dX6_dig_9 : decode cX6_dig 9 = .ok (.invokevirtual 67, 3) := dk_182 0 67 (dk_at dksX6_dig_0 9 rfl rfl)
theorem dX6_dig_12 : decode cX6_dig 12 = .ok (.aload_n 0, 1) := dk_42 (dk_at dksX6_dig_0 12 rfl rfl)
theorem dX6_dig_13 : decode cX6_dig 13 = .ok (.iload_n 2, 1) := dk_28 (dk_at dksX6_dig_0 13 rfl rfl)
theorem dX6_dig_14 : decode cX6_dig 14 = .ok (.iconst 1, 1) := dk_4 (dk_at dksX6_dig_0 14 rfl rfl)
theorem dX6_dig_15 : decode cX6_dig 15 = .ok (.iload_n 1, 1) := dk_27 (dk_at dksX6_dig_0 15 rfl rfl)
theorem dX6_dig_16 : decode cX6_dig 16 = .ok (.invokevirtual 67, 3) := dk_182 0 67 (dk_at dksX6_dig_0 16 rfl rfl)
theorem dX6_dig_19 : decode cX6_dig 19 = .ok (.aload_n 0, 1) := dk_42 (dk_at dksX6_dig_0 19 rfl rfl)
theorem dX6_dig_20 : decode cX6_dig 20 = .ok (.iload_n 2, 1) := dk_28 (dk_at dksX6_dig_0 20 rfl rfl)
theorem dX6_dig_21 : decode cX6_dig 21 = .ok (.iconst 2, 1) := dk_5 (dk_at dksX6_dig_0 21 rfl rfl)
theorem dX6_dig_22 : decode cX6_dig 22 = .ok (.iconst 0, 1) := dk_3 (dk_at dksX6_dig_0 22 rfl rfl)
theorem dX6_dig_23 : decode cX6_dig 23 = .ok (.invokevirtual 67, 3) := dk_182 0 67 (dk_at dksX6_dig_1 0 rfl rfl)
theorem dX6_dig_26 : decode cX6_dig 26 = .ok (.aload_n 0, 1) := dk_42 (dk_at dksX6_dig_1 3 rfl rfl)
theorem dX6_dig_27 : decode cX6_dig 27 = .ok (.iload_n 2, 1) := dk_28 (dk_at dksX6_dig_1 4 rfl rfl)
theorem dX6_dig_28 : decode cX6_dig 28 = .ok (.iconst 3, 1) := dk_6 (dk_at dksX6_dig_1 5 rfl rfl)
theorem dX6_dig_29 : decode cX6_dig 29 = .ok (.iconst 0, 1) := dk_3 (dk_at dksX6_dig_1 6 rfl rfl)
theorem dX6_dig_30 : decode cX6_dig 30 = .ok (.invokevirtual 67, 3) := dk_182 0 67 (dk_at dksX6_dig_1 7 rfl rfl)
theorem dX6_dig_33 : decode cX6_dig 33 = .ok (.aload_n 0, 1) := dk_42 (dk_at dksX6_dig_1 10 rfl rfl)
theorem dX6_dig_34 : decode cX6_dig 34 = .ok (.iload_n 2, 1) := dk_28 (dk_at dksX6_dig_1 11 rfl rfl)
theorem dX6_dig_35 : decode cX6_dig 35 = .ok (.iconst 4, 1) := dk_7 (dk_at dksX6_dig_1 12 rfl rfl)
theorem dX6_dig_36 : decode cX6_dig 36 = .ok (.iconst 1, 1) := dk_4 (dk_at dksX6_dig_1 13 rfl rfl)
theorem dX6_dig_37 : decode cX6_dig 37 = .ok (.invokevirtual 67, 3) := dk_182 0 67 (dk_at dksX6_dig_1 14 rfl rfl)
theorem dX6_dig_40 : decode cX6_dig 40 = .ok (.aload_n 0, 1) := dk_42 (dk_at dksX6_dig_1 17 rfl rfl)
theorem dX6_dig_41 : decode cX6_dig 41 = .ok (.iload_n 2, 1) := dk_28 (dk_at dksX6_dig_1 18 rfl rfl)
theorem dX6_dig_42 : decode cX6_dig 42 = .ok (.iconst 5, 1) := dk_8 (dk_at dksX6_dig_1 19 rfl rfl)
theorem dX6_dig_43 : decode cX6_dig 43 = .ok (.iconst 0, 1) := dk_3 (dk_at dksX6_dig_1 20 rfl rfl)
theorem dX6_dig_44 : decode cX6_dig 44 = .ok (.invokevirtual 67, 3) := dk_182 0 67 (dk_at dksX6_dig_1 21 rfl rfl)
theorem dX6_dig_47 : decode cX6_dig 47 = .ok (.iload_n 2, 1) := dk_28 (dk_at dksX6_dig_2 0 rfl rfl)
theorem dX6_dig_48 : decode cX6_dig 48 = .ok (.ireturn, 1) := dk_172 (dk_at dksX6_dig_2 1 rfl rfl)
/-! PageGardenModel.dig(I)I -/
abbrev M_X6_dig (z0 n0 : Nat) (s' : gS) : gM := (RX6, cX6_dig, 3, (some FieldType.int), "dig", [], 5, z0, n0, s'.2.1, s'.2.2)
abbrev W_X6_dig (E : gE) (z0 n0 : Nat) (r : Int32) (s' : gS) (pc : Nat) (L : List (Nat × gV)) (st : List gV) (s : gS) : Prop := gW E (M_X6_dig z0 n0 s') (gQm E (M_X6_dig z0 n0 s') (.inl (some (vI r))) s') pc L st s
noncomputable def f_X6_dig_0 (κ : gK) (F : Nat)  (l0 : Option Nat) (l1 : Int32) (s : gS) : Option (Int32 × gS) :=
  gB1 (gck s l0 9) fun _ =>
  gB2 (f_X6_nextNow κ F l0  s) fun v2 s1 =>
  gB1 (gck s1 l0 9) fun _ =>
  gB2 (f_X6_lay κ F l0 v2 (0 : Int32) (1 : Int32) s1) fun v5 s4 =>
  gB1 (gck s4 l0 9) fun _ =>
  gB2 (f_X6_lay κ F l0 v2 (1 : Int32) l1 s4) fun v8 s7 =>
  gB1 (gck s7 l0 9) fun _ =>
  gB2 (f_X6_lay κ F l0 v2 (2 : Int32) (0 : Int32) s7) fun v11 s10 =>
  gB1 (gck s10 l0 9) fun _ =>
  gB2 (f_X6_lay κ F l0 v2 (3 : Int32) (0 : Int32) s10) fun v14 s13 =>
  gB1 (gck s13 l0 9) fun _ =>
  gB2 (f_X6_lay κ F l0 v2 (4 : Int32) (1 : Int32) s13) fun v17 s16 =>
  gB1 (gck s16 l0 9) fun _ =>
  gB2 (f_X6_lay κ F l0 v2 (5 : Int32) (0 : Int32) s16) fun v20 s19 =>
  some (v2, s19)
set_option maxHeartbeats 4000000 in
theorem w_X6_dig_0 {E : gE} {F z0 n0 : Nat} {r : Int32} {s' : gS}   : ∀ (l0 : Option Nat) (l1 : Int32)  (s : gS), f_X6_dig_0 (gk E) F  l0 l1 s = some (r, s') → W_X6_dig E z0 n0 r s' 0 [(0, vR l0), (1, vI l1)] [] s := by
  intro l0 l1 s hB
  unfold f_X6_dig_0 at hB
  refine gw_aload_n 0 rfl dX6_dig_0 ?_
  obtain ⟨u0, hu3, hB⟩ := gB1_some hB
  obtain ⟨v2, s1, hv2, hB⟩ := gB2_some hB
  refine gw_callV (y := yX6_nextNow) (lw_V q2836 q2838 qs68 q143 q2839) hdV_X6_nextNow gcl9 hu3 (As := []) (rest := []) (m_X6_nextNow _ _ _ _ hv2) (Nat.le_of_ble_eq_true rfl) (Nat.le_of_ble_eq_true rfl) rfl (Nat.le_of_ble_eq_true rfl) dX6_dig_1 (gCont_i ?_)
  refine gw_istore_n (L' := [(2, vI v2), (0, vR l0), (1, vI l1)]) (Nat.le_of_ble_eq_true rfl) rfl dX6_dig_4 ?_
  refine gw_aload_n 1 rfl dX6_dig_5 ?_
  refine gw_iload_n 0 rfl dX6_dig_6 ?_
  refine gw_iconst (v := (0 : Int32)) (by decide) dX6_dig_7 ?_
  refine gw_iconst (v := (1 : Int32)) (by decide) dX6_dig_8 ?_
  obtain ⟨u0, hu6, hB⟩ := gB1_some hB
  obtain ⟨v5, s4, hv5, hB⟩ := gB2_some hB
  refine gw_callV (y := yX6_lay) (lw_V q2840 q2842 qs69 q143 q2843) hdV_X6_lay gcl9 hu6 (As := [vI v2, vI (0 : Int32), vI (1 : Int32)]) (rest := []) (m_X6_lay _ _ _ _ _ _ _ hv5) (Nat.le_of_ble_eq_true rfl) (Nat.le_of_ble_eq_true rfl) rfl (Nat.le_of_ble_eq_true rfl) dX6_dig_9 (gCont_v ?_)
  refine gw_aload_n 1 rfl dX6_dig_12 ?_
  refine gw_iload_n 0 rfl dX6_dig_13 ?_
  refine gw_iconst (v := (1 : Int32)) (by decide) dX6_dig_14 ?_
  refine gw_iload_n 2 rfl dX6_dig_15 ?_
  obtain ⟨u0, hu9, hB⟩ := gB1_some hB
  obtain ⟨v8, s7, hv8, hB⟩ := gB2_some hB
  refine gw_callV (y := yX6_lay) (lw_V q2840 q2842 qs69 q143 q2843) hdV_X6_lay gcl9 hu9 (As := [vI v2, vI (1 : Int32), vI l1]) (rest := []) (m_X6_lay _ _ _ _ _ _ _ hv8) (Nat.le_of_ble_eq_true rfl) (Nat.le_of_ble_eq_true rfl) rfl (Nat.le_of_ble_eq_true rfl) dX6_dig_16 (gCont_v ?_)
  refine gw_aload_n 1 rfl dX6_dig_19 ?_
  refine gw_iload_n 0 rfl dX6_dig_20 ?_
  refine gw_iconst (v := (2 : Int32)) (by decide) dX6_dig_21 ?_
  refine gw_iconst (v := (0 : Int32)) (by decide) dX6_dig_22 ?_
  obtain ⟨u0, hu12, hB⟩ := gB1_some hB
  obtain ⟨v11, s10, hv11, hB⟩ := gB2_some hB
  refine gw_callV (y := yX6_lay) (lw_V q2840 q2842 qs69 q143 q2843) hdV_X6_lay gcl9 hu12 (As := [vI v2, vI (2 : Int32), vI (0 : Int32)]) (rest := []) (m_X6_lay _ _ _ _ _ _ _ hv11) (Nat.le_of_ble_eq_true rfl) (Nat.le_of_ble_eq_true rfl) rfl (Nat.le_of_ble_eq_true rfl) dX6_dig_23 (gCont_v ?_)
  refine gw_aload_n 1 rfl dX6_dig_26 ?_
  refine gw_iload_n 0 rfl dX6_dig_27 ?_
  refine gw_iconst (v := (3 : Int32)) (by decide) dX6_dig_28 ?_
  refine gw_iconst (v := (0 : Int32)) (by decide) dX6_dig_29 ?_
  obtain ⟨u0, hu15, hB⟩ := gB1_some hB
  obtain ⟨v14, s13, hv14, hB⟩ := gB2_some hB
  refine gw_callV (y := yX6_lay) (lw_V q2840 q2842 qs69 q143 q2843) hdV_X6_lay gcl9 hu15 (As := [vI v2, vI (3 : Int32), vI (0 : Int32)]) (rest := []) (m_X6_lay _ _ _ _ _ _ _ hv14) (Nat.le_of_ble_eq_true rfl) (Nat.le_of_ble_eq_true rfl) rfl (Nat.le_of_ble_eq_true rfl) dX6_dig_30 (gCont_v ?_)
  refine gw_aload_n 1 rfl dX6_dig_33 ?_
  refine gw_iload_n 0 rfl dX6_dig_34 ?_
  refine gw_iconst (v := (4 : Int32)) (by decide) dX6_dig_35 ?_
  refine gw_iconst (v := (1 : Int32)) (by decide) dX6_dig_36 ?_
  obtain ⟨u0, hu18, hB⟩ := gB1_some hB
  obtain ⟨v17, s16, hv17, hB⟩ := gB2_some hB
  refine gw_callV (y := yX6_lay) (lw_V q2840 q2842 qs69 q143 q2843) hdV_X6_lay gcl9 hu18 (As := [vI v2, vI (4 : Int32), vI (1 : Int32)]) (rest := []) (m_X6_lay _ _ _ _ _ _ _ hv17) (Nat.le_of_ble_eq_true rfl) (Nat.le_of_ble_eq_true rfl) rfl (Nat.le_of_ble_eq_true rfl) dX6_dig_37 (gCont_v ?_)
  refine gw_aload_n 1 rfl dX6_dig_40 ?_
  refine gw_iload_n 0 rfl dX6_dig_41 ?_
  refine gw_iconst (v := (5 : Int32)) (by decide) dX6_dig_42 ?_
  refine gw_iconst (v := (0 : Int32)) (by decide) dX6_dig_43 ?_
  obtain ⟨u0, hu21, hB⟩ := gB1_some hB
  obtain ⟨v20, s19, hv20, hB⟩ := gB2_some hB
  refine gw_callV (y := yX6_lay) (lw_V q2840 q2842 qs69 q143 q2843) hdV_X6_lay gcl9 hu21 (As := [vI v2, vI (5 : Int32), vI (0 : Int32)]) (rest := []) (m_X6_lay _ _ _ _ _ _ _ hv20) (Nat.le_of_ble_eq_true rfl) (Nat.le_of_ble_eq_true rfl) rfl (Nat.le_of_ble_eq_true rfl) dX6_dig_44 (gCont_v ?_)
  refine gw_iload_n 0 rfl dX6_dig_47 ?_
  obtain ⟨rfl, rfl⟩ := Prod.mk.inj (Option.some.inj hB)
  exact gw_iret rfl rfl rfl dX6_dig_48
noncomputable def f_X6_dig (κ : gK) (F : Nat) (a0 : Option Nat) (a1 : Int32) (s : gS) : Option (Int32 × gS) := f_X6_dig_0 κ F a0 a1 s
theorem m_X6_dig {E : gE} {F : Nat} (a0 : Option Nat) (a1 : Int32) (s : gS) (r : Int32) (s' : gS) (h : f_X6_dig (gk E) F a0 a1 s = some (r, s')) : gCT E 5 yX6_dig (ws_ yX6_dig cX6_dig 3 (some FieldType.int)) [vR a0, vI a1] s (.inl (some (vI r))) s' := by
  refine gCT_of2 (fun h => absurd h (by decide)) (plainFor_of_name (by decide)) (Nat.le_of_ble_eq_true rfl) ?_
  exact gw_sub [0, 1] rfl (w_X6_dig_0 _ _ _ h)
def dkwX6_copies_1 : List UInt8 := [167, 255, 235, 42, 28, 5, 42, 27, 5, 182, 0, 53, 182, 0, 67, 177]
abbrev dktX6_copies_1 : List UInt8 := dkwX6_copies_1 ++ []
def dkwX6_copies_0 : List UInt8 := [16, 6, 62, 29, 16, 14, 162, 0, 21, 42, 28, 29, 42, 27, 29, 182, 0, 53, 182, 0, 67, 132, 3, 1]
abbrev dktX6_copies_0 : List UInt8 := dkwX6_copies_0 ++ dktX6_copies_1
theorem dksX6_copies_0 : cX6_copies.data.toList.drop 0 = dktX6_copies_0 := by decide +kernel
theorem dksX6_copies_1 : cX6_copies.data.toList.drop 24 = dktX6_copies_1 := dk_seg dksX6_copies_0 24 rfl rfl
theorem dX6_copies_0 : decode cX6_copies 0 = .ok (.bipush 6, 2) := dk_16 6 (dk_at dksX6_copies_0 0 rfl rfl)
theorem dX6_copies_2 : decode cX6_copies 2 = .ok (.istore_n 3, 1) := dk_62 (dk_at dksX6_copies_0 2 rfl rfl)
theorem dX6_copies_3 : decode cX6_copies 3 = .ok (.iload_n 3, 1) := dk_29 (dk_at dksX6_copies_0 3 rfl rfl)
theorem dX6_copies_4 : decode cX6_copies 4 = .ok (.bipush 14, 2) := dk_16 14 (dk_at dksX6_copies_0 4 rfl rfl)
theorem dX6_copies_6 : decode cX6_copies 6 = .ok (.if_icmp .ge 21, 3) := dk_162 0 21 (dk_at dksX6_copies_0 6 rfl rfl)
theorem dX6_copies_9 : decode cX6_copies 9 = .ok (.aload_n 0, 1) := dk_42 (dk_at dksX6_copies_0 9 rfl rfl)
theorem dX6_copies_10 : decode cX6_copies 10 = .ok (.iload_n 2, 1) := dk_28 (dk_at dksX6_copies_0 10 rfl rfl)
theorem dX6_copies_11 : decode cX6_copies 11 = .ok (.iload_n 3, 1) := dk_29 (dk_at dksX6_copies_0 11 rfl rfl)
theorem dX6_copies_12 : decode cX6_copies 12 = .ok (.aload_n 0, 1) := dk_42 (dk_at dksX6_copies_0 12 rfl rfl)
theorem dX6_copies_13 : decode cX6_copies 13 = .ok (.iload_n 1, 1) := dk_27 (dk_at dksX6_copies_0 13 rfl rfl)
theorem dX6_copies_14 : decode cX6_copies 14 = .ok (.iload_n 3, 1) := dk_29 (dk_at dksX6_copies_0 14 rfl rfl)
theorem dX6_copies_15 : decode cX6_copies 15 = .ok (.invokevirtual 53, 3) := dk_182 0 53 (dk_at dksX6_copies_0 15 rfl rfl)
theorem dX6_copies_18 : decode cX6_copies 18 = .ok (.invokevirtual 67, 3) := dk_182 0 67 (dk_at dksX6_copies_0 18 rfl rfl)
theorem dX6_copies_21 : decode cX6_copies 21 = .ok (.iinc 3 1, 3) := dk_132 3 1 (dk_at dksX6_copies_0 21 rfl rfl)
theorem dX6_copies_24 : decode cX6_copies 24 = .ok (.goto (-21), 3) := dk_167 255 235 (dk_at dksX6_copies_1 0 rfl rfl)
theorem dX6_copies_27 : decode cX6_copies 27 = .ok (.aload_n 0, 1) := dk_42 (dk_at dksX6_copies_1 3 rfl rfl)
theorem dX6_copies_28 : decode cX6_copies 28 = .ok (.iload_n 2, 1) := dk_28 (dk_at dksX6_copies_1 4 rfl rfl)
theorem dX6_copies_29 : decode cX6_copies 29 = .ok (.iconst 2, 1) := dk_5 (dk_at dksX6_copies_1 5 rfl rfl)
theorem dX6_copies_30 : decode cX6_copies 30 = .ok (.aload_n 0, 1) := dk_42 (dk_at dksX6_copies_1 6 rfl rfl)
theorem dX6_copies_31 : decode cX6_copies 31 = .ok (.iload_n 1, 1) := dk_27 (dk_at dksX6_copies_1 7 rfl rfl)
theorem dX6_copies_32 : decode cX6_copies 32 = .ok (.iconst 2, 1) := dk_5 (dk_at dksX6_copies_1 8 rfl rfl)
theorem dX6_copies_33 : decode cX6_copies 33 = .ok (.invokevirtual 53, 3) := dk_182 0 53 (dk_at dksX6_copies_1 9 rfl rfl)
theorem dX6_copies_36 : decode cX6_copies 36 = .ok (.invokevirtual 67, 3) := dk_182 0 67 (dk_at dksX6_copies_1 12 rfl rfl)
theorem dX6_copies_39 : decode cX6_copies 39 = .ok (.return_, 1) := dk_177 (dk_at dksX6_copies_1 15 rfl rfl)
/-! PageGardenModel.copies(II)V -/
abbrev M_X6_copies (z0 n0 : Nat) (s' : gS) : gM := (RX6, cX6_copies, 4, none, "copies", [], 2, z0, n0, s'.2.1, s'.2.2)
abbrev W_X6_copies (E : gE) (z0 n0 : Nat) (r : Unit) (s' : gS) (pc : Nat) (L : List (Nat × gV)) (st : List gV) (s : gS) : Prop := gW E (M_X6_copies z0 n0 s') (gQm E (M_X6_copies z0 n0 s') (.inl none) s') pc L st s
noncomputable def f_X6_copies_3b (κ : gK) (F : Nat) (k3 : Option Nat → Int32 → Int32 → Int32 → gS → Option (Unit × gS)) (l0 : Option Nat) (l1 : Int32) (l2 : Int32) (l3 : Int32) (s : gS) : Option (Unit × gS) :=
  if (14 : Int32) ≤ l3 then
    gB1 (gck s l0 9) fun _ =>
    gB2 (f_X6_of κ F l0 l1 (2 : Int32) s) fun v2 s1 =>
    gB1 (gck s1 l0 9) fun _ =>
    gB2 (f_X6_lay κ F l0 l2 (2 : Int32) v2 s1) fun v5 s4 =>
    some ((), s4)
  else
    gB1 (gck s l0 9) fun _ =>
    gB2 (f_X6_of κ F l0 l1 l3 s) fun v8 s7 =>
    gB1 (gck s7 l0 9) fun _ =>
    gB2 (f_X6_lay κ F l0 l2 l3 v8 s7) fun v11 s10 =>
    k3 l0 l1 l2 (l3 + (1 : Int32)) s10
noncomputable def f_X6_copies_3 (κ : gK) (F : Nat)  : Nat → Option Nat → Int32 → Int32 → Int32 → gS → Option (Unit × gS)
  | 0 => fun _ _ _ _ _ => none
  | n + 1 => f_X6_copies_3b κ F  (f_X6_copies_3 κ F  n)
set_option maxHeartbeats 4000000 in
theorem w_X6_copies_3b {E : gE} {F z0 n0 : Nat} {r : Unit} {s' : gS} {k3 : Option Nat → Int32 → Int32 → Int32 → gS → Option (Unit × gS)} (hk3 : ∀ (l0 : Option Nat) (l1 : Int32) (l2 : Int32) (l3 : Int32) (s : gS), k3 l0 l1 l2 l3 s = some (r, s') → W_X6_copies E z0 n0 r s' 3 [(0, vR l0), (1, vI l1), (2, vI l2), (3, vI l3)] [] s) : ∀ (l0 : Option Nat) (l1 : Int32) (l2 : Int32) (l3 : Int32)  (s : gS), f_X6_copies_3b (gk E) F k3 l0 l1 l2 l3 s = some (r, s') → W_X6_copies E z0 n0 r s' 3 [(0, vR l0), (1, vI l1), (2, vI l2), (3, vI l3)] [] s := by
  intro l0 l1 l2 l3 s hB
  unfold f_X6_copies_3b at hB
  refine gw_iload_n 3 rfl dX6_copies_3 ?_
  refine gw_bipush (v := (14 : Int32)) (by decide) dX6_copies_4 ?_
  refine gw_icmp_ge (tgt := 27) dX6_copies_6 (by decide) (fun hcnd => ?_) (fun hcnd => ?_)
  · rw [if_pos hcnd] at hB
    refine gw_aload_n 0 rfl dX6_copies_27 ?_
    refine gw_iload_n 2 rfl dX6_copies_28 ?_
    refine gw_iconst (v := (2 : Int32)) (by decide) dX6_copies_29 ?_
    refine gw_aload_n 0 rfl dX6_copies_30 ?_
    refine gw_iload_n 1 rfl dX6_copies_31 ?_
    refine gw_iconst (v := (2 : Int32)) (by decide) dX6_copies_32 ?_
    obtain ⟨u0, hu3, hB⟩ := gB1_some hB
    obtain ⟨v2, s1, hv2, hB⟩ := gB2_some hB
    refine gw_callV (y := yX6_of) (lw_V q2796 q2798 qs58 q143 q2799) hdV_X6_of gcl9 hu3 (As := [vI l1, vI (2 : Int32)]) (rest := [vI (2 : Int32), vI l2, vR l0]) (m_X6_of _ _ _ _ _ _ hv2) (Nat.le_of_ble_eq_true rfl) (Nat.le_of_ble_eq_true rfl) rfl (Nat.le_of_ble_eq_true rfl) dX6_copies_33 (gCont_i ?_)
    obtain ⟨u0, hu6, hB⟩ := gB1_some hB
    obtain ⟨v5, s4, hv5, hB⟩ := gB2_some hB
    refine gw_callV (y := yX6_lay) (lw_V q2840 q2842 qs69 q143 q2843) hdV_X6_lay gcl9 hu6 (As := [vI l2, vI (2 : Int32), vI v2]) (rest := []) (m_X6_lay _ _ _ _ _ _ _ hv5) (Nat.le_of_ble_eq_true rfl) (Nat.le_of_ble_eq_true rfl) rfl (Nat.le_of_ble_eq_true rfl) dX6_copies_36 (gCont_v ?_)
    obtain ⟨rfl, rfl⟩ := Prod.mk.inj (Option.some.inj hB)
    exact gw_vret rfl rfl rfl dX6_copies_39
  · rw [if_neg hcnd] at hB
    refine gw_aload_n 0 rfl dX6_copies_9 ?_
    refine gw_iload_n 2 rfl dX6_copies_10 ?_
    refine gw_iload_n 3 rfl dX6_copies_11 ?_
    refine gw_aload_n 0 rfl dX6_copies_12 ?_
    refine gw_iload_n 1 rfl dX6_copies_13 ?_
    refine gw_iload_n 3 rfl dX6_copies_14 ?_
    obtain ⟨u0, hu9, hB⟩ := gB1_some hB
    obtain ⟨v8, s7, hv8, hB⟩ := gB2_some hB
    refine gw_callV (y := yX6_of) (lw_V q2796 q2798 qs58 q143 q2799) hdV_X6_of gcl9 hu9 (As := [vI l1, vI l3]) (rest := [vI l3, vI l2, vR l0]) (m_X6_of _ _ _ _ _ _ hv8) (Nat.le_of_ble_eq_true rfl) (Nat.le_of_ble_eq_true rfl) rfl (Nat.le_of_ble_eq_true rfl) dX6_copies_15 (gCont_i ?_)
    obtain ⟨u0, hu12, hB⟩ := gB1_some hB
    obtain ⟨v11, s10, hv11, hB⟩ := gB2_some hB
    refine gw_callV (y := yX6_lay) (lw_V q2840 q2842 qs69 q143 q2843) hdV_X6_lay gcl9 hu12 (As := [vI l2, vI l3, vI v8]) (rest := []) (m_X6_lay _ _ _ _ _ _ _ hv11) (Nat.le_of_ble_eq_true rfl) (Nat.le_of_ble_eq_true rfl) rfl (Nat.le_of_ble_eq_true rfl) dX6_copies_18 (gCont_v ?_)
    refine gw_iinc (w := (1 : Int32)) (L' := [(3, vI (l3 + (1 : Int32))), (0, vR l0), (1, vI l1), (2, vI l2)]) 3 rfl (by decide) (Nat.le_of_ble_eq_true rfl) rfl dX6_copies_21 ?_
    refine gw_goto (tgt := 3) dX6_copies_24 (by decide) ?_
    exact gw_sub [1, 2, 3, 0] rfl (hk3 _ _ _ _ _ hB)
theorem w_X6_copies_3 {E : gE} {F z0 n0 : Nat} {r : Unit} {s' : gS}   : ∀ (n : Nat) (l0 : Option Nat) (l1 : Int32) (l2 : Int32) (l3 : Int32)  (s : gS), f_X6_copies_3 (gk E) F  n l0 l1 l2 l3 s = some (r, s') → W_X6_copies E z0 n0 r s' 3 [(0, vR l0), (1, vI l1), (2, vI l2), (3, vI l3)] [] s := by
  intro n
  induction n with
  | zero => intro l0 l1 l2 l3 s hB; cases hB
  | succ n ih => intro l0 l1 l2 l3 s hB; exact w_X6_copies_3b ih l0 l1 l2 l3 s hB
noncomputable def f_X6_copies_0 (κ : gK) (F : Nat)  (l0 : Option Nat) (l1 : Int32) (l2 : Int32) (s : gS) : Option (Unit × gS) :=
  f_X6_copies_3 κ F  F l0 l1 l2 (6 : Int32) s
set_option maxHeartbeats 4000000 in
theorem w_X6_copies_0 {E : gE} {F z0 n0 : Nat} {r : Unit} {s' : gS}   : ∀ (l0 : Option Nat) (l1 : Int32) (l2 : Int32)  (s : gS), f_X6_copies_0 (gk E) F  l0 l1 l2 s = some (r, s') → W_X6_copies E z0 n0 r s' 0 [(0, vR l0), (1, vI l1), (2, vI l2)] [] s := by
  intro l0 l1 l2 s hB
  unfold f_X6_copies_0 at hB
  refine gw_bipush (v := (6 : Int32)) (by decide) dX6_copies_0 ?_
  refine gw_istore_n (L' := [(3, vI (6 : Int32)), (0, vR l0), (1, vI l1), (2, vI l2)]) (Nat.le_of_ble_eq_true rfl) rfl dX6_copies_2 ?_
  exact gw_sub [1, 2, 3, 0] rfl (w_X6_copies_3  F _ _ _ _ _ hB)
noncomputable def f_X6_copies (κ : gK) (F : Nat) (a0 : Option Nat) (a1 : Int32) (a2 : Int32) (s : gS) : Option (Unit × gS) := f_X6_copies_0 κ F a0 a1 a2 s
theorem m_X6_copies {E : gE} {F : Nat} (a0 : Option Nat) (a1 : Int32) (a2 : Int32) (s : gS) (r : Unit) (s' : gS) (h : f_X6_copies (gk E) F a0 a1 a2 s = some (r, s')) : gCT E 2 yX6_copies (ws_ yX6_copies cX6_copies 4 none) [vR a0, vI a1, vI a2] s (.inl none) s' := by
  refine gCT_of2 (fun h => absurd h (by decide)) (plainFor_of_name (by decide)) (Nat.le_of_ble_eq_true rfl) ?_
  exact gw_sub [0, 1, 2] rfl (w_X6_copies_0 _ _ _ _ h)
def dkwX6_becomesWild_0 : List UInt8 := [3, 61, 28, 16, 14, 162, 0, 16, 42, 27, 28, 3, 182, 0, 67, 132, 2, 1, 167, 255, 240, 177]
abbrev dktX6_becomesWild_0 : List UInt8 := dkwX6_becomesWild_0 ++ []
theorem dksX6_becomesWild_0 : cX6_becomesWild.data.toList.drop 0 = dktX6_becomesWild_0 := by decide +kernel
theorem dX6_becomesWild_0 : decode cX6_becomesWild 0 = .ok (.iconst 0, 1) := dk_3 (dk_at dksX6_becomesWild_0 0 rfl rfl)
theorem dX6_becomesWild_1 : decode cX6_becomesWild 1 = .ok (.istore_n 2, 1) := dk_61 (dk_at dksX6_becomesWild_0 1 rfl rfl)
theorem dX6_becomesWild_2 : decode cX6_becomesWild 2 = .ok (.iload_n 2, 1) := dk_28 (dk_at dksX6_becomesWild_0 2 rfl rfl)
theorem dX6_becomesWild_3 : decode cX6_becomesWild 3 = .ok (.bipush 14, 2) := dk_16 14 (dk_at dksX6_becomesWild_0 3 rfl rfl)
theorem dX6_becomesWild_5 : decode cX6_becomesWild 5 = .ok (.if_icmp .ge 16, 3) := dk_162 0 16 (dk_at dksX6_becomesWild_0 5 rfl rfl)
theorem dX6_becomesWild_8 : decode cX6_becomesWild 8 = .ok (.aload_n 0, 1) := dk_42 (dk_at dksX6_becomesWild_0 8 rfl rfl)
theorem dX6_becomesWild_9 : decode cX6_becomesWild 9 = .ok (.iload_n 1, 1) := dk_27 (dk_at dksX6_becomesWild_0 9 rfl rfl)
theorem dX6_becomesWild_10 : decode cX6_becomesWild 10 = .ok (.iload_n 2, 1) := dk_28 (dk_at dksX6_becomesWild_0 10 rfl rfl)
theorem dX6_becomesWild_11 : decode cX6_becomesWild 11 = .ok (.iconst 0, 1) := dk_3 (dk_at dksX6_becomesWild_0 11 rfl rfl)
theorem dX6_becomesWild_12 : decode cX6_becomesWild 12 = .ok (.invokevirtual 67, 3) := dk_182 0 67 (dk_at dksX6_becomesWild_0 12 rfl rfl)
theorem dX6_becomesWild_15 : decode cX6_becomesWild 15 = .ok (.iinc 2 1, 3) := dk_132 2 1 (dk_at dksX6_becomesWild_0 15 rfl rfl)
theorem dX6_becomesWild_18 : decode cX6_becomesWild 18 = .ok (.goto (-16), 3) := dk_167 255 240 (dk_at dksX6_becomesWild_0 18 rfl rfl)
theorem dX6_becomesWild_21 : decode cX6_becomesWild 21 = .ok (.return_, 1) := dk_177 (dk_at dksX6_becomesWild_0 21 rfl rfl)
/-! PageGardenModel.becomesWild(I)V -/
abbrev M_X6_becomesWild (z0 n0 : Nat) (s' : gS) : gM := (RX6, cX6_becomesWild, 3, none, "becomesWild", [], 2, z0, n0, s'.2.1, s'.2.2)
abbrev W_X6_becomesWild (E : gE) (z0 n0 : Nat) (r : Unit) (s' : gS) (pc : Nat) (L : List (Nat × gV)) (st : List gV) (s : gS) : Prop := gW E (M_X6_becomesWild z0 n0 s') (gQm E (M_X6_becomesWild z0 n0 s') (.inl none) s') pc L st s
noncomputable def f_X6_becomesWild_2b (κ : gK) (F : Nat) (k2 : Option Nat → Int32 → Int32 → gS → Option (Unit × gS)) (l0 : Option Nat) (l1 : Int32) (l2 : Int32) (s : gS) : Option (Unit × gS) :=
  if (14 : Int32) ≤ l2 then
    some ((), s)
  else
    gB1 (gck s l0 9) fun _ =>
    gB2 (f_X6_lay κ F l0 l1 l2 (0 : Int32) s) fun v2 s1 =>
    k2 l0 l1 (l2 + (1 : Int32)) s1
noncomputable def f_X6_becomesWild_2 (κ : gK) (F : Nat)  : Nat → Option Nat → Int32 → Int32 → gS → Option (Unit × gS)
  | 0 => fun _ _ _ _ => none
  | n + 1 => f_X6_becomesWild_2b κ F  (f_X6_becomesWild_2 κ F  n)
set_option maxHeartbeats 4000000 in
theorem w_X6_becomesWild_2b {E : gE} {F z0 n0 : Nat} {r : Unit} {s' : gS} {k2 : Option Nat → Int32 → Int32 → gS → Option (Unit × gS)} (hk2 : ∀ (l0 : Option Nat) (l1 : Int32) (l2 : Int32) (s : gS), k2 l0 l1 l2 s = some (r, s') → W_X6_becomesWild E z0 n0 r s' 2 [(0, vR l0), (1, vI l1), (2, vI l2)] [] s) : ∀ (l0 : Option Nat) (l1 : Int32) (l2 : Int32)  (s : gS), f_X6_becomesWild_2b (gk E) F k2 l0 l1 l2 s = some (r, s') → W_X6_becomesWild E z0 n0 r s' 2 [(0, vR l0), (1, vI l1), (2, vI l2)] [] s := by
  intro l0 l1 l2 s hB
  unfold f_X6_becomesWild_2b at hB
  refine gw_iload_n 2 rfl dX6_becomesWild_2 ?_
  refine gw_bipush (v := (14 : Int32)) (by decide) dX6_becomesWild_3 ?_
  refine gw_icmp_ge (tgt := 21) dX6_becomesWild_5 (by decide) (fun hcnd => ?_) (fun hcnd => ?_)
  · rw [if_pos hcnd] at hB
    obtain ⟨rfl, rfl⟩ := Prod.mk.inj (Option.some.inj hB)
    exact gw_vret rfl rfl rfl dX6_becomesWild_21
  · rw [if_neg hcnd] at hB
    refine gw_aload_n 0 rfl dX6_becomesWild_8 ?_
    refine gw_iload_n 1 rfl dX6_becomesWild_9 ?_
    refine gw_iload_n 2 rfl dX6_becomesWild_10 ?_
    refine gw_iconst (v := (0 : Int32)) (by decide) dX6_becomesWild_11 ?_
    obtain ⟨u0, hu3, hB⟩ := gB1_some hB
    obtain ⟨v2, s1, hv2, hB⟩ := gB2_some hB
    refine gw_callV (y := yX6_lay) (lw_V q2840 q2842 qs69 q143 q2843) hdV_X6_lay gcl9 hu3 (As := [vI l1, vI l2, vI (0 : Int32)]) (rest := []) (m_X6_lay _ _ _ _ _ _ _ hv2) (Nat.le_of_ble_eq_true rfl) (Nat.le_of_ble_eq_true rfl) rfl (Nat.le_of_ble_eq_true rfl) dX6_becomesWild_12 (gCont_v ?_)
    refine gw_iinc (w := (1 : Int32)) (L' := [(2, vI (l2 + (1 : Int32))), (0, vR l0), (1, vI l1)]) 2 rfl (by decide) (Nat.le_of_ble_eq_true rfl) rfl dX6_becomesWild_15 ?_
    refine gw_goto (tgt := 2) dX6_becomesWild_18 (by decide) ?_
    exact gw_sub [1, 2, 0] rfl (hk2 _ _ _ _ hB)
theorem w_X6_becomesWild_2 {E : gE} {F z0 n0 : Nat} {r : Unit} {s' : gS}   : ∀ (n : Nat) (l0 : Option Nat) (l1 : Int32) (l2 : Int32)  (s : gS), f_X6_becomesWild_2 (gk E) F  n l0 l1 l2 s = some (r, s') → W_X6_becomesWild E z0 n0 r s' 2 [(0, vR l0), (1, vI l1), (2, vI l2)] [] s := by
  intro n
  induction n with
  | zero => intro l0 l1 l2 s hB; cases hB
  | succ n ih => intro l0 l1 l2 s hB; exact w_X6_becomesWild_2b ih l0 l1 l2 s hB
noncomputable def f_X6_becomesWild_0 (κ : gK) (F : Nat)  (l0 : Option Nat) (l1 : Int32) (s : gS) : Option (Unit × gS) :=
  f_X6_becomesWild_2 κ F  F l0 l1 (0 : Int32) s
set_option maxHeartbeats 4000000 in
theorem w_X6_becomesWild_0 {E : gE} {F z0 n0 : Nat} {r : Unit} {s' : gS}   : ∀ (l0 : Option Nat) (l1 : Int32)  (s : gS), f_X6_becomesWild_0 (gk E) F  l0 l1 s = some (r, s') → W_X6_becomesWild E z0 n0 r s' 0 [(0, vR l0), (1, vI l1)] [] s := by
  intro l0 l1 s hB
  unfold f_X6_becomesWild_0 at hB
  refine gw_iconst (v := (0 : Int32)) (by decide) dX6_becomesWild_0 ?_
  refine gw_istore_n (L' := [(2, vI (0 : Int32)), (0, vR l0), (1, vI l1)]) (Nat.le_of_ble_eq_true rfl) rfl dX6_becomesWild_1 ?_
  exact gw_sub [1, 2, 0] rfl (w_X6_becomesWild_2  F _ _ _ _ hB)
noncomputable def f_X6_becomesWild (κ : gK) (F : Nat) (a0 : Option Nat) (a1 : Int32) (s : gS) : Option (Unit × gS) := f_X6_becomesWild_0 κ F a0 a1 s
theorem m_X6_becomesWild {E : gE} {F : Nat} (a0 : Option Nat) (a1 : Int32) (s : gS) (r : Unit) (s' : gS) (h : f_X6_becomesWild (gk E) F a0 a1 s = some (r, s')) : gCT E 2 yX6_becomesWild (ws_ yX6_becomesWild cX6_becomesWild 3 none) [vR a0, vI a1] s (.inl none) s' := by
  refine gCT_of2 (fun h => absurd h (by decide)) (plainFor_of_name (by decide)) (Nat.le_of_ble_eq_true rfl) ?_
  exact gw_sub [0, 1] rfl (w_X6_becomesWild_0 _ _ _ h)
def dkwX6_leaves_1 : List UInt8 := [182, 0, 67, 177]
abbrev dktX6_leaves_1 : List UInt8 := dkwX6_leaves_1 ++ []
def dkwX6_leaves_0 : List UInt8 := [42, 27, 7, 182, 0, 53, 4, 160, 0, 11, 42, 27, 182, 0, 71, 167, 0, 10, 42, 27, 8, 4]
abbrev dktX6_leaves_0 : List UInt8 := dkwX6_leaves_0 ++ dktX6_leaves_1
theorem dksX6_leaves_0 : cX6_leaves.data.toList.drop 0 = dktX6_leaves_0 := by decide +kernel
theorem dksX6_leaves_1 : cX6_leaves.data.toList.drop 22 = dktX6_leaves_1 := dk_seg dksX6_leaves_0 22 rfl rfl
theorem dX6_leaves_0 : decode cX6_leaves 0 = .ok (.aload_n 0, 1) := dk_42 (dk_at dksX6_leaves_0 0 rfl rfl)
theorem dX6_leaves_1 : decode cX6_leaves 1 = .ok (.iload_n 1, 1) := dk_27 (dk_at dksX6_leaves_0 1 rfl rfl)
theorem dX6_leaves_2 : decode cX6_leaves 2 = .ok (.iconst 4, 1) := dk_7 (dk_at dksX6_leaves_0 2 rfl rfl)
theorem dX6_leaves_3 : decode cX6_leaves 3 = .ok (.invokevirtual 53, 3) := dk_182 0 53 (dk_at dksX6_leaves_0 3 rfl rfl)
theorem dX6_leaves_6 : decode cX6_leaves 6 = .ok (.iconst 1, 1) := dk_4 (dk_at dksX6_leaves_0 6 rfl rfl)
theorem dX6_leaves_7 : decode cX6_leaves 7 = .ok (.if_icmp .ne 11, 3) := dk_160 0 11 (dk_at dksX6_leaves_0 7 rfl rfl)
theorem dX6_leaves_10 : decode cX6_leaves 10 = .ok (.aload_n 0, 1) := dk_42 (dk_at dksX6_leaves_0 10 rfl rfl)
theorem dX6_leaves_11 : decode cX6_leaves 11 = .ok (.iload_n 1, 1) := dk_27 (dk_at dksX6_leaves_0 11 rfl rfl)
theorem dX6_leaves_12 : decode cX6_leaves 12 = .ok (.invokevirtual 71, 3) := dk_182 0 71 (dk_at dksX6_leaves_0 12 rfl rfl)
theorem dX6_leaves_15 : decode cX6_leaves 15 = .ok (.goto 10, 3) := dk_167 0 10 (dk_at dksX6_leaves_0 15 rfl rfl)
theorem dX6_leaves_18 : decode cX6_leaves 18 = .ok (.aload_n 0, 1) := dk_42 (dk_at dksX6_leaves_0 18 rfl rfl)
theorem dX6_leaves_19 : decode cX6_leaves 19 = .ok (.iload_n 1, 1) := dk_27 (dk_at dksX6_leaves_0 19 rfl rfl)
theorem dX6_leaves_20 : decode cX6_leaves 20 = .ok (.iconst 5, 1) := dk_8 (dk_at dksX6_leaves_0 20 rfl rfl)
theorem dX6_leaves_21 : decode cX6_leaves 21 = .ok (.iconst 1, 1) := dk_4 (dk_at dksX6_leaves_0 21 rfl rfl)
theorem dX6_leaves_22 : decode cX6_leaves 22 = .ok (.invokevirtual 67, 3) := dk_182 0 67 (dk_at dksX6_leaves_1 0 rfl rfl)
theorem dX6_leaves_25 : decode cX6_leaves 25 = .ok (.return_, 1) := dk_177 (dk_at dksX6_leaves_1 3 rfl rfl)
/-! PageGardenModel.leaves(I)V -/
abbrev M_X6_leaves (z0 n0 : Nat) (s' : gS) : gM := (RX6, cX6_leaves, 2, none, "leaves", [], 3, z0, n0, s'.2.1, s'.2.2)
abbrev W_X6_leaves (E : gE) (z0 n0 : Nat) (r : Unit) (s' : gS) (pc : Nat) (L : List (Nat × gV)) (st : List gV) (s : gS) : Prop := gW E (M_X6_leaves z0 n0 s') (gQm E (M_X6_leaves z0 n0 s') (.inl none) s') pc L st s
noncomputable def f_X6_leaves_25 (κ : gK) (F : Nat)   (s : gS) : Option (Unit × gS) :=
  some ((), s)
set_option maxHeartbeats 4000000 in
theorem w_X6_leaves_25 {E : gE} {F z0 n0 : Nat} {r : Unit} {s' : gS}   : ∀   (s : gS), f_X6_leaves_25 (gk E) F   s = some (r, s') → W_X6_leaves E z0 n0 r s' 25 [] [] s := by
  intro  s hB
  unfold f_X6_leaves_25 at hB
  obtain ⟨rfl, rfl⟩ := Prod.mk.inj (Option.some.inj hB)
  exact gw_vret rfl rfl rfl dX6_leaves_25
noncomputable def f_X6_leaves_0 (κ : gK) (F : Nat)  (l0 : Option Nat) (l1 : Int32) (s : gS) : Option (Unit × gS) :=
  gB1 (gck s l0 9) fun _ =>
  gB2 (f_X6_of κ F l0 l1 (4 : Int32) s) fun v2 s1 =>
  if v2 = (1 : Int32) then
    gB1 (gck s1 l0 9) fun _ =>
    gB2 (f_X6_becomesWild κ F l0 l1 s1) fun v8 s7 =>
    f_X6_leaves_25 κ F  s7
  else
    gB1 (gck s1 l0 9) fun _ =>
    gB2 (f_X6_lay κ F l0 l1 (5 : Int32) (1 : Int32) s1) fun v5 s4 =>
    f_X6_leaves_25 κ F  s4
set_option maxHeartbeats 4000000 in
theorem w_X6_leaves_0 {E : gE} {F z0 n0 : Nat} {r : Unit} {s' : gS}   : ∀ (l0 : Option Nat) (l1 : Int32)  (s : gS), f_X6_leaves_0 (gk E) F  l0 l1 s = some (r, s') → W_X6_leaves E z0 n0 r s' 0 [(0, vR l0), (1, vI l1)] [] s := by
  intro l0 l1 s hB
  unfold f_X6_leaves_0 at hB
  refine gw_aload_n 0 rfl dX6_leaves_0 ?_
  refine gw_iload_n 1 rfl dX6_leaves_1 ?_
  refine gw_iconst (v := (4 : Int32)) (by decide) dX6_leaves_2 ?_
  obtain ⟨u0, hu3, hB⟩ := gB1_some hB
  obtain ⟨v2, s1, hv2, hB⟩ := gB2_some hB
  refine gw_callV (y := yX6_of) (lw_V q2796 q2798 qs58 q143 q2799) hdV_X6_of gcl9 hu3 (As := [vI l1, vI (4 : Int32)]) (rest := []) (m_X6_of _ _ _ _ _ _ hv2) (Nat.le_of_ble_eq_true rfl) (Nat.le_of_ble_eq_true rfl) rfl (Nat.le_of_ble_eq_true rfl) dX6_leaves_3 (gCont_i ?_)
  refine gw_iconst (v := (1 : Int32)) (by decide) dX6_leaves_6 ?_
  refine gw_icmp_ne (tgt := 18) dX6_leaves_7 (by decide) (fun hcnd => ?_) (fun hcnd => ?_)
  · rw [if_neg hcnd] at hB
    refine gw_aload_n 0 rfl dX6_leaves_18 ?_
    refine gw_iload_n 1 rfl dX6_leaves_19 ?_
    refine gw_iconst (v := (5 : Int32)) (by decide) dX6_leaves_20 ?_
    refine gw_iconst (v := (1 : Int32)) (by decide) dX6_leaves_21 ?_
    obtain ⟨u0, hu6, hB⟩ := gB1_some hB
    obtain ⟨v5, s4, hv5, hB⟩ := gB2_some hB
    refine gw_callV (y := yX6_lay) (lw_V q2840 q2842 qs69 q143 q2843) hdV_X6_lay gcl9 hu6 (As := [vI l1, vI (5 : Int32), vI (1 : Int32)]) (rest := []) (m_X6_lay _ _ _ _ _ _ _ hv5) (Nat.le_of_ble_eq_true rfl) (Nat.le_of_ble_eq_true rfl) rfl (Nat.le_of_ble_eq_true rfl) dX6_leaves_22 (gCont_v ?_)
    exact gw_sub [] rfl (w_X6_leaves_25   _ hB)
  · rw [if_pos hcnd] at hB
    refine gw_aload_n 0 rfl dX6_leaves_10 ?_
    refine gw_iload_n 1 rfl dX6_leaves_11 ?_
    obtain ⟨u0, hu9, hB⟩ := gB1_some hB
    obtain ⟨v8, s7, hv8, hB⟩ := gB2_some hB
    refine gw_callV (y := yX6_becomesWild) (lw_V q2852 q2854 qs72 q143 q2855) hdV_X6_becomesWild gcl9 hu9 (As := [vI l1]) (rest := []) (m_X6_becomesWild _ _ _ _ _ hv8) (Nat.le_of_ble_eq_true rfl) (Nat.le_of_ble_eq_true rfl) rfl (Nat.le_of_ble_eq_true rfl) dX6_leaves_12 (gCont_v ?_)
    refine gw_goto (tgt := 25) dX6_leaves_15 (by decide) ?_
    exact gw_sub [] rfl (w_X6_leaves_25   _ hB)
noncomputable def f_X6_leaves (κ : gK) (F : Nat) (a0 : Option Nat) (a1 : Int32) (s : gS) : Option (Unit × gS) := f_X6_leaves_0 κ F a0 a1 s
theorem m_X6_leaves {E : gE} {F : Nat} (a0 : Option Nat) (a1 : Int32) (s : gS) (r : Unit) (s' : gS) (h : f_X6_leaves (gk E) F a0 a1 s = some (r, s')) : gCT E 3 yX6_leaves (ws_ yX6_leaves cX6_leaves 2 none) [vR a0, vI a1] s (.inl none) s' := by
  refine gCT_of2 (fun h => absurd h (by decide)) (plainFor_of_name (by decide)) (Nat.le_of_ble_eq_true rfl) ?_
  exact gw_sub [0, 1] rfl (w_X6_leaves_0 _ _ _ h)
def dkwX6_directory_2 : List UInt8 := [180, 0, 7, 17, 1, 211, 46, 172]
abbrev dktX6_directory_2 : List UInt8 := dkwX6_directory_2 ++ []
def dkwX6_directory_1 : List UInt8 := [4, 182, 0, 96, 79, 42, 27, 42, 180, 0, 7, 17, 1, 211, 46, 182, 0, 99, 42, 27, 182, 0, 103, 42]
abbrev dktX6_directory_1 : List UInt8 := dkwX6_directory_1 ++ dktX6_directory_2
def dkwX6_directory_0 : List UInt8 := [42, 180, 0, 7, 17, 1, 211, 46, 156, 0, 39, 42, 182, 0, 90, 60, 42, 180, 0, 7, 17, 1, 211, 42]
abbrev dktX6_directory_0 : List UInt8 := dkwX6_directory_0 ++ dktX6_directory_1
theorem dksX6_directory_0 : cX6_directory.data.toList.drop 0 = dktX6_directory_0 := by decide +kernel
theorem dksX6_directory_1 : cX6_directory.data.toList.drop 24 = dktX6_directory_1 := dk_seg dksX6_directory_0 24 rfl rfl
theorem dksX6_directory_2 : cX6_directory.data.toList.drop 48 = dktX6_directory_2 := dk_seg dksX6_directory_1 24 rfl rfl
theorem dX6_directory_0 : decode cX6_directory 0 = .ok (.aload_n 0, 1) := dk_42 (dk_at dksX6_directory_0 0 rfl rfl)
theorem dX6_directory_1 : decode cX6_directory 1 = .ok (.getfield 7, 3) := dk_180 0 7 (dk_at dksX6_directory_0 1 rfl rfl)
theorem dX6_directory_4 : decode cX6_directory 4 = .ok (.sipush 467, 3) := dk_17 1 211 (dk_at dksX6_directory_0 4 rfl rfl)
theorem dX6_directory_7 : decode cX6_directory 7 = .ok (.iaload, 1) := dk_46 (dk_at dksX6_directory_0 7 rfl rfl)
theorem dX6_directory_8 : decode cX6_directory 8 = .ok (.ifCond .ge 39, 3) := dk_156 0 39 (dk_at dksX6_directory_0 8 rfl rfl)
theorem dX6_directory_11 : decode cX6_directory 11 = .ok (.aload_n 0, 1) := dk_42 (dk_at dksX6_directory_0 11 rfl rfl)
theorem dX6_directory_12 : decode cX6_directory 12 = .ok (.invokevirtual 90, 3) := dk_182 0 90 (dk_at dksX6_directory_0 12 rfl rfl)
theorem dX6_directory_15 : decode cX6_directory 15 = .ok (.istore_n 1, 1) := dk_60 (dk_at dksX6_directory_0 15 rfl rfl)
theorem dX6_directory_16 : decode cX6_directory 16 = .ok (.aload_n 0, 1) := dk_42 (dk_at dksX6_directory_0 16 rfl rfl)
theorem dX6_directory_17 : decode cX6_directory 17 = .ok (.getfield 7, 3) := dk_180 0 7 (dk_at dksX6_directory_0 17 rfl rfl)
theorem dX6_directory_20 : decode cX6_directory 20 = .ok (.sipush 467, 3) := dk_17 1 211 (dk_at dksX6_directory_0 20 rfl rfl)
theorem dX6_directory_23 : decode cX6_directory 23 = .ok (.aload_n 0, 1) := dk_42 (dk_at dksX6_directory_0 23 rfl rfl)
theorem dX6_directory_24 : decode cX6_directory 24 = .ok (.iconst 1, 1) := dk_4 (dk_at dksX6_directory_1 0 rfl rfl)
theorem dX6_directory_25 : decode cX6_directory 25 = .ok (.invokevirtual 96, 3) := dk_182 0 96 (dk_at dksX6_directory_1 1 rfl rfl)
theorem dX6_directory_28 : decode cX6_directory 28 = .ok (.iastore, 1) := dk_79 (dk_at dksX6_directory_1 4 rfl rfl)
theorem dX6_directory_29 : decode cX6_directory 29 = .ok (.aload_n 0, 1) := dk_42 (dk_at dksX6_directory_1 5 rfl rfl)
theorem dX6_directory_30 : decode cX6_directory 30 = .ok (.iload_n 1, 1) := dk_27 (dk_at dksX6_directory_1 6 rfl rfl)
theorem dX6_directory_31 : decode cX6_directory 31 = .ok (.aload_n 0, 1) := dk_42 (dk_at dksX6_directory_1 7 rfl rfl)
theorem dX6_directory_32 : decode cX6_directory 32 = .ok (.getfield 7, 3) := dk_180 0 7 (dk_at dksX6_directory_1 8 rfl rfl)
theorem dX6_directory_35 : decode cX6_directory 35 = .ok (.sipush 467, 3) := dk_17 1 211 (dk_at dksX6_directory_1 11 rfl rfl)
theorem dX6_directory_38 : decode cX6_directory 38 = .ok (.iaload, 1) := dk_46 (dk_at dksX6_directory_1 14 rfl rfl)
theorem dX6_directory_39 : decode cX6_directory 39 = .ok (.invokevirtual 99, 3) := dk_182 0 99 (dk_at dksX6_directory_1 15 rfl rfl)
theorem dX6_directory_42 : decode cX6_directory 42 = .ok (.aload_n 0, 1) := dk_42 (dk_at dksX6_directory_1 18 rfl rfl)
theorem dX6_directory_43 : decode cX6_directory 43 = .ok (.iload_n 1, 1) := dk_27 (dk_at dksX6_directory_1 19 rfl rfl)
theorem dX6_directory_44 : decode cX6_directory 44 = .ok (.invokevirtual 103, 3) := dk_182 0 103 (dk_at dksX6_directory_1 20 rfl rfl)
theorem dX6_directory_47 : decode cX6_directory 47 = .ok (.aload_n 0, 1) := dk_42 (dk_at dksX6_directory_1 23 rfl rfl)
theorem dX6_directory_48 : decode cX6_directory 48 = .ok (.getfield 7, 3) := dk_180 0 7 (dk_at dksX6_directory_2 0 rfl rfl)
theorem dX6_directory_51 : decode cX6_directory 51 = .ok (.sipush 467, 3) := dk_17 1 211 (dk_at dksX6_directory_2 3 rfl rfl)
theorem dX6_directory_54 : decode cX6_directory 54 = .ok (.iaload, 1) := dk_46 (dk_at dksX6_directory_2 6 rfl rfl)
theorem dX6_directory_55 : decode cX6_directory 55 = .ok (.ireturn, 1) := dk_172 (dk_at dksX6_directory_2 7 rfl rfl)
/-! PageGardenModel.directory()I -/
abbrev M_X6_directory (z0 n0 : Nat) (s' : gS) : gM := (RX6, cX6_directory, 2, (some FieldType.int), "directory", [], 6, z0, n0, s'.2.1, s'.2.2)
abbrev W_X6_directory (E : gE) (z0 n0 : Nat) (r : Int32) (s' : gS) (pc : Nat) (L : List (Nat × gV)) (st : List gV) (s : gS) : Prop := gW E (M_X6_directory z0 n0 s') (gQm E (M_X6_directory z0 n0 s') (.inl (some (vI r))) s') pc L st s
noncomputable def f_X6_directory_47 (κ : gK) (F : Nat)  (l0 : Option Nat) (s : gS) : Option (Int32 × gS) :=
  gB1 (gfR s l0 9 0) fun v1 =>
  gB1 (gaI s v1 0 (467 : Int32)) fun v2 =>
  some (v2, s)
set_option maxHeartbeats 4000000 in
theorem w_X6_directory_47 {E : gE} {F z0 n0 : Nat} {r : Int32} {s' : gS}   : ∀ (l0 : Option Nat)  (s : gS), f_X6_directory_47 (gk E) F  l0 s = some (r, s') → W_X6_directory E z0 n0 r s' 47 [(0, vR l0)] [] s := by
  intro l0 s hB
  unfold f_X6_directory_47 at hB
  refine gw_aload_n 0 rfl dX6_directory_47 ?_
  obtain ⟨v1, hv1, hB⟩ := gB1_some hB
  refine gw_getf (C := RX6) (T := TX6) (N := 13) (k := 0) gcl9 (by decide) in_X6 q2694 (gfR_spec hv1) dX6_directory_48 ?_
  refine gw_sipush (v := (467 : Int32)) (by decide) dX6_directory_51 ?_
  obtain ⟨v2, hv2, hB⟩ := gB1_some hB
  refine gw_iaload hv2 dX6_directory_54 ?_
  obtain ⟨rfl, rfl⟩ := Prod.mk.inj (Option.some.inj hB)
  exact gw_iret rfl rfl rfl dX6_directory_55
noncomputable def f_X6_directory_0 (κ : gK) (F : Nat)  (l0 : Option Nat) (s : gS) : Option (Int32 × gS) :=
  gB1 (gfR s l0 9 0) fun v1 =>
  gB1 (gaI s v1 0 (467 : Int32)) fun v2 =>
  if 0 ≤ v2 then
    f_X6_directory_47 κ F  l0 s
  else
    gB1 (gck s l0 9) fun _ =>
    gB2 (f_X6_now κ F l0  s) fun v4 s3 =>
    gB1 (gfR s3 l0 9 0) fun v6 =>
    gB1 (gck s3 l0 9) fun _ =>
    gB2 (f_X6_dig κ F l0 (1 : Int32) s3) fun v8 s7 =>
    gB1 (gsI κ s7 v6 (467 : Int32) v8) fun s10 =>
    gB1 (gfR s10 l0 9 0) fun v11 =>
    gB1 (gaI s10 v11 0 (467 : Int32)) fun v12 =>
    gB1 (gck s10 l0 9) fun _ =>
    gB2 (f_X6_copies κ F l0 v4 v12 s10) fun v14 s13 =>
    gB1 (gck s13 l0 9) fun _ =>
    gB2 (f_X6_leaves κ F l0 v4 s13) fun v17 s16 =>
    f_X6_directory_47 κ F  l0 s16
set_option maxHeartbeats 4000000 in
theorem w_X6_directory_0 {E : gE} {F z0 n0 : Nat} {r : Int32} {s' : gS}   : ∀ (l0 : Option Nat)  (s : gS), f_X6_directory_0 (gk E) F  l0 s = some (r, s') → W_X6_directory E z0 n0 r s' 0 [(0, vR l0)] [] s := by
  intro l0 s hB
  unfold f_X6_directory_0 at hB
  refine gw_aload_n 0 rfl dX6_directory_0 ?_
  obtain ⟨v1, hv1, hB⟩ := gB1_some hB
  refine gw_getf (C := RX6) (T := TX6) (N := 13) (k := 0) gcl9 (by decide) in_X6 q2694 (gfR_spec hv1) dX6_directory_1 ?_
  refine gw_sipush (v := (467 : Int32)) (by decide) dX6_directory_4 ?_
  obtain ⟨v2, hv2, hB⟩ := gB1_some hB
  refine gw_iaload hv2 dX6_directory_7 ?_
  refine gw_if_ge (tgt := 47) dX6_directory_8 (by decide) (fun hcnd => ?_) (fun hcnd => ?_)
  · rw [if_pos hcnd] at hB
    exact gw_sub [0] rfl (w_X6_directory_47  _ _ hB)
  · rw [if_neg hcnd] at hB
    refine gw_aload_n 0 rfl dX6_directory_11 ?_
    obtain ⟨u0, hu5, hB⟩ := gB1_some hB
    obtain ⟨v4, s3, hv4, hB⟩ := gB2_some hB
    refine gw_callV (y := yX6_now) (lw_V q2788 q2790 qs56 q143 q2791) hdV_X6_now gcl9 hu5 (As := []) (rest := []) (m_X6_now _ _ _ _ hv4) (Nat.le_of_ble_eq_true rfl) (Nat.le_of_ble_eq_true rfl) rfl (Nat.le_of_ble_eq_true rfl) dX6_directory_12 (gCont_i ?_)
    refine gw_istore_n (L' := [(1, vI v4), (0, vR l0)]) (Nat.le_of_ble_eq_true rfl) rfl dX6_directory_15 ?_
    refine gw_aload_n 1 rfl dX6_directory_16 ?_
    obtain ⟨v6, hv6, hB⟩ := gB1_some hB
    refine gw_getf (C := RX6) (T := TX6) (N := 13) (k := 0) gcl9 (by decide) in_X6 q2694 (gfR_spec hv6) dX6_directory_17 ?_
    refine gw_sipush (v := (467 : Int32)) (by decide) dX6_directory_20 ?_
    refine gw_aload_n 1 rfl dX6_directory_23 ?_
    refine gw_iconst (v := (1 : Int32)) (by decide) dX6_directory_24 ?_
    obtain ⟨u0, hu9, hB⟩ := gB1_some hB
    obtain ⟨v8, s7, hv8, hB⟩ := gB2_some hB
    refine gw_callV (y := yX6_dig) (lw_V q2832 q2834 qs67 q143 q2835) hdV_X6_dig gcl9 hu9 (As := [vI (1 : Int32)]) (rest := [vI (467 : Int32), vR v6]) (m_X6_dig _ _ _ _ _ hv8) (Nat.le_of_ble_eq_true rfl) (Nat.le_of_ble_eq_true rfl) rfl (Nat.le_of_ble_eq_true rfl) dX6_directory_25 (gCont_i ?_)
    obtain ⟨s10, hs10, hB⟩ := gB1_some hB
    refine gw_iastore hs10 dX6_directory_28 ?_
    refine gw_aload_n 1 rfl dX6_directory_29 ?_
    refine gw_iload_n 0 rfl dX6_directory_30 ?_
    refine gw_aload_n 1 rfl dX6_directory_31 ?_
    obtain ⟨v11, hv11, hB⟩ := gB1_some hB
    refine gw_getf (C := RX6) (T := TX6) (N := 13) (k := 0) gcl9 (by decide) in_X6 q2694 (gfR_spec hv11) dX6_directory_32 ?_
    refine gw_sipush (v := (467 : Int32)) (by decide) dX6_directory_35 ?_
    obtain ⟨v12, hv12, hB⟩ := gB1_some hB
    refine gw_iaload hv12 dX6_directory_38 ?_
    obtain ⟨u0, hu15, hB⟩ := gB1_some hB
    obtain ⟨v14, s13, hv14, hB⟩ := gB2_some hB
    refine gw_callV (y := yX6_copies) (lw_V q2844 q2846 qs70 q143 q2847) hdV_X6_copies gcl9 hu15 (As := [vI v4, vI v12]) (rest := []) (m_X6_copies _ _ _ _ _ _ hv14) (Nat.le_of_ble_eq_true rfl) (Nat.le_of_ble_eq_true rfl) rfl (Nat.le_of_ble_eq_true rfl) dX6_directory_39 (gCont_v ?_)
    refine gw_aload_n 1 rfl dX6_directory_42 ?_
    refine gw_iload_n 0 rfl dX6_directory_43 ?_
    obtain ⟨u0, hu18, hB⟩ := gB1_some hB
    obtain ⟨v17, s16, hv17, hB⟩ := gB2_some hB
    refine gw_callV (y := yX6_leaves) (lw_V q2848 q2850 qs71 q143 q2851) hdV_X6_leaves gcl9 hu18 (As := [vI v4]) (rest := []) (m_X6_leaves _ _ _ _ _ hv17) (Nat.le_of_ble_eq_true rfl) (Nat.le_of_ble_eq_true rfl) rfl (Nat.le_of_ble_eq_true rfl) dX6_directory_44 (gCont_v ?_)
    exact gw_sub [1] rfl (w_X6_directory_47  _ _ hB)
noncomputable def f_X6_directory (κ : gK) (F : Nat) (a0 : Option Nat) (s : gS) : Option (Int32 × gS) := f_X6_directory_0 κ F a0 s
theorem m_X6_directory {E : gE} {F : Nat} (a0 : Option Nat) (s : gS) (r : Int32) (s' : gS) (h : f_X6_directory (gk E) F a0 s = some (r, s')) : gCT E 6 yX6_directory (ws_ yX6_directory cX6_directory 2 (some FieldType.int)) [vR a0] s (.inl (some (vI r))) s' := by
  refine gCT_of2 (fun h => absurd h (by decide)) (plainFor_of_name (by decide)) (Nat.le_of_ble_eq_true rfl) ?_
  exact gw_sub [0] rfl (w_X6_directory_0 _ _ h)
def dkwX6_valueAt_0 : List UInt8 := [42, 27, 16, 6, 5, 28, 104, 96, 4, 96, 182, 0, 53, 172]
abbrev dktX6_valueAt_0 : List UInt8 := dkwX6_valueAt_0 ++ []
theorem dksX6_valueAt_0 : cX6_valueAt.data.toList.drop 0 = dktX6_valueAt_0 := by decide +kernel
theorem dX6_valueAt_0 : decode cX6_valueAt 0 = .ok (.aload_n 0, 1) := dk_42 (dk_at dksX6_valueAt_0 0 rfl rfl)
theorem dX6_valueAt_1 : decode cX6_valueAt 1 = .ok (.iload_n 1, 1) := dk_27 (dk_at dksX6_valueAt_0 1 rfl rfl)
theorem dX6_valueAt_2 : decode cX6_valueAt 2 = .ok (.bipush 6, 2) := dk_16 6 (dk_at dksX6_valueAt_0 2 rfl rfl)
theorem dX6_valueAt_4 : decode cX6_valueAt 4 = .ok (.iconst 2, 1) := dk_5 (dk_at dksX6_valueAt_0 4 rfl rfl)
theorem dX6_valueAt_5 : decode cX6_valueAt 5 = .ok (.iload_n 2, 1) := dk_28 (dk_at dksX6_valueAt_0 5 rfl rfl)
theorem dX6_valueAt_6 : decode cX6_valueAt 6 = .ok (.imul, 1) := dk_104 (dk_at dksX6_valueAt_0 6 rfl rfl)
theorem dX6_valueAt_7 : decode cX6_valueAt 7 = .ok (.iadd, 1) := dk_96 (dk_at dksX6_valueAt_0 7 rfl rfl)
theorem dX6_valueAt_8 : decode cX6_valueAt 8 = .ok (.iconst 1, 1) := dk_4 (dk_at dksX6_valueAt_0 8 rfl rfl)
theorem dX6_valueAt_9 : decode cX6_valueAt 9 = .ok (.iadd, 1) := dk_96 (dk_at dksX6_valueAt_0 9 rfl rfl)
theorem dX6_valueAt_10 : decode cX6_valueAt 10 = .ok (.invokevirtual 53, 3) := dk_182 0 53 (dk_at dksX6_valueAt_0 10 rfl rfl)
theorem dX6_valueAt_13 : decode cX6_valueAt 13 = .ok (.ireturn, 1) := dk_172 (dk_at dksX6_valueAt_0 13 rfl rfl)
/-! PageGardenModel.valueAt(II)I -/
abbrev M_X6_valueAt (z0 n0 : Nat) (s' : gS) : gM := (RX6, cX6_valueAt, 3, (some FieldType.int), "valueAt", [], 2, z0, n0, s'.2.1, s'.2.2)
abbrev W_X6_valueAt (E : gE) (z0 n0 : Nat) (r : Int32) (s' : gS) (pc : Nat) (L : List (Nat × gV)) (st : List gV) (s : gS) : Prop := gW E (M_X6_valueAt z0 n0 s') (gQm E (M_X6_valueAt z0 n0 s') (.inl (some (vI r))) s') pc L st s
noncomputable def f_X6_valueAt_0 (κ : gK) (F : Nat)  (l0 : Option Nat) (l1 : Int32) (l2 : Int32) (s : gS) : Option (Int32 × gS) :=
  gB1 (gck s l0 9) fun _ =>
  gB2 (f_X6_of κ F l0 l1 (((6 : Int32) + ((2 : Int32) * l2)) + (1 : Int32)) s) fun v2 s1 =>
  some (v2, s1)
set_option maxHeartbeats 4000000 in
theorem w_X6_valueAt_0 {E : gE} {F z0 n0 : Nat} {r : Int32} {s' : gS}   : ∀ (l0 : Option Nat) (l1 : Int32) (l2 : Int32)  (s : gS), f_X6_valueAt_0 (gk E) F  l0 l1 l2 s = some (r, s') → W_X6_valueAt E z0 n0 r s' 0 [(0, vR l0), (1, vI l1), (2, vI l2)] [] s := by
  intro l0 l1 l2 s hB
  unfold f_X6_valueAt_0 at hB
  refine gw_aload_n 0 rfl dX6_valueAt_0 ?_
  refine gw_iload_n 1 rfl dX6_valueAt_1 ?_
  refine gw_bipush (v := (6 : Int32)) (by decide) dX6_valueAt_2 ?_
  refine gw_iconst (v := (2 : Int32)) (by decide) dX6_valueAt_4 ?_
  refine gw_iload_n 2 rfl dX6_valueAt_5 ?_
  refine gw_imul dX6_valueAt_6 ?_
  refine gw_iadd dX6_valueAt_7 ?_
  refine gw_iconst (v := (1 : Int32)) (by decide) dX6_valueAt_8 ?_
  refine gw_iadd dX6_valueAt_9 ?_
  obtain ⟨u0, hu3, hB⟩ := gB1_some hB
  obtain ⟨v2, s1, hv2, hB⟩ := gB2_some hB
  refine gw_callV (y := yX6_of) (lw_V q2796 q2798 qs58 q143 q2799) hdV_X6_of gcl9 hu3 (As := [vI l1, vI (((6 : Int32) + ((2 : Int32) * l2)) + (1 : Int32))]) (rest := []) (m_X6_of _ _ _ _ _ _ hv2) (Nat.le_of_ble_eq_true rfl) (Nat.le_of_ble_eq_true rfl) rfl (Nat.le_of_ble_eq_true rfl) dX6_valueAt_10 (gCont_i ?_)
  obtain ⟨rfl, rfl⟩ := Prod.mk.inj (Option.some.inj hB)
  exact gw_iret rfl rfl rfl dX6_valueAt_13
noncomputable def f_X6_valueAt (κ : gK) (F : Nat) (a0 : Option Nat) (a1 : Int32) (a2 : Int32) (s : gS) : Option (Int32 × gS) := f_X6_valueAt_0 κ F a0 a1 a2 s
theorem m_X6_valueAt {E : gE} {F : Nat} (a0 : Option Nat) (a1 : Int32) (a2 : Int32) (s : gS) (r : Int32) (s' : gS) (h : f_X6_valueAt (gk E) F a0 a1 a2 s = some (r, s')) : gCT E 2 yX6_valueAt (ws_ yX6_valueAt cX6_valueAt 3 (some FieldType.int)) [vR a0, vI a1, vI a2] s (.inl (some (vI r))) s' := by
  refine gCT_of2 (fun h => absurd h (by decide)) (plainFor_of_name (by decide)) (Nat.le_of_ble_eq_true rfl) ?_
  exact gw_sub [0, 1, 2] rfl (w_X6_valueAt_0 _ _ _ _ h)
def dkwX6_setEntry_1 : List UInt8 := [182, 0, 67, 177]
abbrev dktX6_setEntry_1 : List UInt8 := dkwX6_setEntry_1 ++ []
def dkwX6_setEntry_0 : List UInt8 := [42, 27, 16, 6, 5, 28, 104, 96, 29, 182, 0, 67, 42, 27, 16, 6, 5, 28, 104, 96, 4, 96, 21, 4]
abbrev dktX6_setEntry_0 : List UInt8 := dkwX6_setEntry_0 ++ dktX6_setEntry_1
theorem dksX6_setEntry_0 : cX6_setEntry.data.toList.drop 0 = dktX6_setEntry_0 := by decide +kernel
theorem dksX6_setEntry_1 : cX6_setEntry.data.toList.drop 24 = dktX6_setEntry_1 := dk_seg dksX6_setEntry_0 24 rfl rfl
theorem dX6_setEntry_0 : decode cX6_setEntry 0 = .ok (.aload_n 0, 1) := dk_42 (dk_at dksX6_setEntry_0 0 rfl rfl)
theorem dX6_setEntry_1 : decode cX6_setEntry 1 = .ok (.iload_n 1, 1) := dk_27 (dk_at dksX6_setEntry_0 1 rfl rfl)
theorem dX6_setEntry_2 : decode cX6_setEntry 2 = .ok (.bipush 6, 2) := dk_16 6 (dk_at dksX6_setEntry_0 2 rfl rfl)
theorem dX6_setEntry_4 : decode cX6_setEntry 4 = .ok (.iconst 2, 1) := dk_5 (dk_at dksX6_setEntry_0 4 rfl rfl)
theorem dX6_setEntry_5 : decode cX6_setEntry 5 = .ok (.iload_n 2, 1) := dk_28 (dk_at dksX6_setEntry_0 5 rfl rfl)
theorem dX6_setEntry_6 : decode cX6_setEntry 6 = .ok (.imul, 1) := dk_104 (dk_at dksX6_setEntry_0 6 rfl rfl)
theorem dX6_setEntry_7 : decode cX6_setEntry 7 = .ok (.iadd, 1) := dk_96 (dk_at dksX6_setEntry_0 7 rfl rfl)
theorem dX6_setEntry_8 : decode cX6_setEntry 8 = .ok (.iload_n 3, 1) := dk_29 (dk_at dksX6_setEntry_0 8 rfl rfl)
theorem dX6_setEntry_9 : decode cX6_setEntry 9 = .ok (.invokevirtual 67, 3) := dk_182 0 67 (dk_at dksX6_setEntry_0 9 rfl rfl)
theorem dX6_setEntry_12 : decode cX6_setEntry 12 = .ok (.aload_n 0, 1) := dk_42 (dk_at dksX6_setEntry_0 12 rfl rfl)
theorem dX6_setEntry_13 : decode cX6_setEntry 13 = .ok (.iload_n 1, 1) := dk_27 (dk_at dksX6_setEntry_0 13 rfl rfl)
theorem dX6_setEntry_14 : decode cX6_setEntry 14 = .ok (.bipush 6, 2) := dk_16 6 (dk_at dksX6_setEntry_0 14 rfl rfl)
theorem dX6_setEntry_16 : decode cX6_setEntry 16 = .ok (.iconst 2, 1) := dk_5 (dk_at dksX6_setEntry_0 16 rfl rfl)
theorem dX6_setEntry_17 : decode cX6_setEntry 17 = .ok (.iload_n 2, 1) := dk_28 (dk_at dksX6_setEntry_0 17 rfl rfl)
theorem dX6_setEntry_18 : decode cX6_setEntry 18 = .ok (.imul, 1) := dk_104 (dk_at dksX6_setEntry_0 18 rfl rfl)
theorem dX6_setEntry_19 : decode cX6_setEntry 19 = .ok (.iadd, 1) := dk_96 (dk_at dksX6_setEntry_0 19 rfl rfl)
theorem dX6_setEntry_20 : decode cX6_setEntry 20 = .ok (.iconst 1, 1) := dk_4 (dk_at dksX6_setEntry_0 20 rfl rfl)
theorem dX6_setEntry_21 : decode cX6_setEntry 21 = .ok (.iadd, 1) := dk_96 (dk_at dksX6_setEntry_0 21 rfl rfl)
theorem dX6_setEntry_22 : decode cX6_setEntry 22 = .ok (.iload 4, 2) := dk_21 4 (dk_at dksX6_setEntry_0 22 rfl rfl)
theorem dX6_setEntry_24 : decode cX6_setEntry 24 = .ok (.invokevirtual 67, 3) := dk_182 0 67 (dk_at dksX6_setEntry_1 0 rfl rfl)
theorem dX6_setEntry_27 : decode cX6_setEntry 27 = .ok (.return_, 1) := dk_177 (dk_at dksX6_setEntry_1 3 rfl rfl)
/-! PageGardenModel.setEntry(IIII)V -/
abbrev M_X6_setEntry (z0 n0 : Nat) (s' : gS) : gM := (RX6, cX6_setEntry, 5, none, "setEntry", [], 2, z0, n0, s'.2.1, s'.2.2)
abbrev W_X6_setEntry (E : gE) (z0 n0 : Nat) (r : Unit) (s' : gS) (pc : Nat) (L : List (Nat × gV)) (st : List gV) (s : gS) : Prop := gW E (M_X6_setEntry z0 n0 s') (gQm E (M_X6_setEntry z0 n0 s') (.inl none) s') pc L st s
noncomputable def f_X6_setEntry_0 (κ : gK) (F : Nat)  (l0 : Option Nat) (l1 : Int32) (l2 : Int32) (l3 : Int32) (l4 : Int32) (s : gS) : Option (Unit × gS) :=
  gB1 (gck s l0 9) fun _ =>
  gB2 (f_X6_lay κ F l0 l1 ((6 : Int32) + ((2 : Int32) * l2)) l3 s) fun v2 s1 =>
  gB1 (gck s1 l0 9) fun _ =>
  gB2 (f_X6_lay κ F l0 l1 (((6 : Int32) + ((2 : Int32) * l2)) + (1 : Int32)) l4 s1) fun v5 s4 =>
  some ((), s4)
set_option maxHeartbeats 4000000 in
theorem w_X6_setEntry_0 {E : gE} {F z0 n0 : Nat} {r : Unit} {s' : gS}   : ∀ (l0 : Option Nat) (l1 : Int32) (l2 : Int32) (l3 : Int32) (l4 : Int32)  (s : gS), f_X6_setEntry_0 (gk E) F  l0 l1 l2 l3 l4 s = some (r, s') → W_X6_setEntry E z0 n0 r s' 0 [(0, vR l0), (1, vI l1), (2, vI l2), (3, vI l3), (4, vI l4)] [] s := by
  intro l0 l1 l2 l3 l4 s hB
  unfold f_X6_setEntry_0 at hB
  refine gw_aload_n 0 rfl dX6_setEntry_0 ?_
  refine gw_iload_n 1 rfl dX6_setEntry_1 ?_
  refine gw_bipush (v := (6 : Int32)) (by decide) dX6_setEntry_2 ?_
  refine gw_iconst (v := (2 : Int32)) (by decide) dX6_setEntry_4 ?_
  refine gw_iload_n 2 rfl dX6_setEntry_5 ?_
  refine gw_imul dX6_setEntry_6 ?_
  refine gw_iadd dX6_setEntry_7 ?_
  refine gw_iload_n 3 rfl dX6_setEntry_8 ?_
  obtain ⟨u0, hu3, hB⟩ := gB1_some hB
  obtain ⟨v2, s1, hv2, hB⟩ := gB2_some hB
  refine gw_callV (y := yX6_lay) (lw_V q2840 q2842 qs69 q143 q2843) hdV_X6_lay gcl9 hu3 (As := [vI l1, vI ((6 : Int32) + ((2 : Int32) * l2)), vI l3]) (rest := []) (m_X6_lay _ _ _ _ _ _ _ hv2) (Nat.le_of_ble_eq_true rfl) (Nat.le_of_ble_eq_true rfl) rfl (Nat.le_of_ble_eq_true rfl) dX6_setEntry_9 (gCont_v ?_)
  refine gw_aload_n 0 rfl dX6_setEntry_12 ?_
  refine gw_iload_n 1 rfl dX6_setEntry_13 ?_
  refine gw_bipush (v := (6 : Int32)) (by decide) dX6_setEntry_14 ?_
  refine gw_iconst (v := (2 : Int32)) (by decide) dX6_setEntry_16 ?_
  refine gw_iload_n 2 rfl dX6_setEntry_17 ?_
  refine gw_imul dX6_setEntry_18 ?_
  refine gw_iadd dX6_setEntry_19 ?_
  refine gw_iconst (v := (1 : Int32)) (by decide) dX6_setEntry_20 ?_
  refine gw_iadd dX6_setEntry_21 ?_
  refine gw_iload 4 rfl dX6_setEntry_22 ?_
  obtain ⟨u0, hu6, hB⟩ := gB1_some hB
  obtain ⟨v5, s4, hv5, hB⟩ := gB2_some hB
  refine gw_callV (y := yX6_lay) (lw_V q2840 q2842 qs69 q143 q2843) hdV_X6_lay gcl9 hu6 (As := [vI l1, vI (((6 : Int32) + ((2 : Int32) * l2)) + (1 : Int32)), vI l4]) (rest := []) (m_X6_lay _ _ _ _ _ _ _ hv5) (Nat.le_of_ble_eq_true rfl) (Nat.le_of_ble_eq_true rfl) rfl (Nat.le_of_ble_eq_true rfl) dX6_setEntry_24 (gCont_v ?_)
  obtain ⟨rfl, rfl⟩ := Prod.mk.inj (Option.some.inj hB)
  exact gw_vret rfl rfl rfl dX6_setEntry_27
noncomputable def f_X6_setEntry (κ : gK) (F : Nat) (a0 : Option Nat) (a1 : Int32) (a2 : Int32) (a3 : Int32) (a4 : Int32) (s : gS) : Option (Unit × gS) := f_X6_setEntry_0 κ F a0 a1 a2 a3 a4 s
theorem m_X6_setEntry {E : gE} {F : Nat} (a0 : Option Nat) (a1 : Int32) (a2 : Int32) (a3 : Int32) (a4 : Int32) (s : gS) (r : Unit) (s' : gS) (h : f_X6_setEntry (gk E) F a0 a1 a2 a3 a4 s = some (r, s')) : gCT E 2 yX6_setEntry (ws_ yX6_setEntry cX6_setEntry 5 none) [vR a0, vI a1, vI a2, vI a3, vI a4] s (.inl none) s' := by
  refine gCT_of2 (fun h => absurd h (by decide)) (plainFor_of_name (by decide)) (Nat.le_of_ble_eq_true rfl) ?_
  exact gw_sub [0, 1, 2, 3, 4] rfl (w_X6_setEntry_0 _ _ _ _ _ _ h)
def dkwX6_inserts_3 : List UInt8 := [42, 27, 5, 182, 0, 53, 4, 96, 182, 0, 67, 177]
abbrev dktX6_inserts_3 : List UInt8 := dkwX6_inserts_3 ++ []
def dkwX6_inserts_2 : List UInt8 := [182, 0, 87, 182, 0, 106, 132, 4, 255, 167, 255, 210, 42, 27, 21, 4, 28, 29, 182, 0, 106, 42, 27, 5]
abbrev dktX6_inserts_2 : List UInt8 := dkwX6_inserts_2 ++ dktX6_inserts_3
def dkwX6_inserts_1 : List UInt8 := [164, 0, 34, 42, 27, 21, 4, 42, 27, 21, 4, 4, 100, 182, 0, 78, 42, 27, 21, 4, 4, 100]
abbrev dktX6_inserts_1 : List UInt8 := dkwX6_inserts_1 ++ dktX6_inserts_2
def dkwX6_inserts_0 : List UInt8 := [42, 27, 5, 182, 0, 53, 54, 4, 21, 4, 158, 0, 47, 42, 27, 21, 4, 4, 100, 182, 0, 78, 28]
abbrev dktX6_inserts_0 : List UInt8 := dkwX6_inserts_0 ++ dktX6_inserts_1
theorem dksX6_inserts_0 : cX6_inserts.data.toList.drop 0 = dktX6_inserts_0 := by decide +kernel
theorem dksX6_inserts_1 : cX6_inserts.data.toList.drop 23 = dktX6_inserts_1 := dk_seg dksX6_inserts_0 23 rfl rfl
theorem dksX6_inserts_2 : cX6_inserts.data.toList.drop 45 = dktX6_inserts_2 := dk_seg dksX6_inserts_1 22 rfl rfl
theorem dksX6_inserts_3 : cX6_inserts.data.toList.drop 69 = dktX6_inserts_3 := dk_seg dksX6_inserts_2 24 rfl rfl
theorem dX6_inserts_0 : decode cX6_inserts 0 = .ok (.aload_n 0, 1) := dk_42 (dk_at dksX6_inserts_0 0 rfl rfl)
theorem dX6_inserts_1 : decode cX6_inserts 1 = .ok (.iload_n 1, 1) := dk_27 (dk_at dksX6_inserts_0 1 rfl rfl)
theorem dX6_inserts_2 : decode cX6_inserts 2 = .ok (.iconst 2, 1) := dk_5 (dk_at dksX6_inserts_0 2 rfl rfl)
theorem dX6_inserts_3 : decode cX6_inserts 3 = .ok (.invokevirtual 53, 3) := dk_182 0 53 (dk_at dksX6_inserts_0 3 rfl rfl)
theorem dX6_inserts_6 : decode cX6_inserts 6 = .ok (.istore 4, 2) := dk_54 4 (dk_at dksX6_inserts_0 6 rfl rfl)
theorem dX6_inserts_8 : decode cX6_inserts 8 = .ok (.iload 4, 2) := dk_21 4 (dk_at dksX6_inserts_0 8 rfl rfl)
theorem dX6_inserts_10 : decode cX6_inserts 10 = .ok (.ifCond .le 47, 3) := dk_158 0 47 (dk_at dksX6_inserts_0 10 rfl rfl)
theorem dX6_inserts_13 : decode cX6_inserts 13 = .ok (.aload_n 0, 1) := dk_42 (dk_at dksX6_inserts_0 13 rfl rfl)
theorem dX6_inserts_14 : decode cX6_inserts 14 = .ok (.iload_n 1, 1) := dk_27 (dk_at dksX6_inserts_0 14 rfl rfl)
theorem dX6_inserts_15 : decode cX6_inserts 15 = .ok (.iload 4, 2) := dk_21 4 (dk_at dksX6_inserts_0 15 rfl rfl)
theorem dX6_inserts_17 : decode cX6_inserts 17 = .ok (.iconst 1, 1) := dk_4 (dk_at dksX6_inserts_0 17 rfl rfl)
theorem dX6_inserts_18 : decode cX6_inserts 18 = .ok (.isub, 1) := dk_100 (dk_at dksX6_inserts_0 18 rfl rfl)
theorem dX6_inserts_19 : decode cX6_inserts 19 = .ok (.invokevirtual 78, 3) := dk_182 0 78 (dk_at dksX6_inserts_0 19 rfl rfl)
theorem dX6_inserts_22 : decode cX6_inserts 22 = .ok (.iload_n 2, 1) := dk_28 (dk_at dksX6_inserts_0 22 rfl rfl)
theorem dX6_inserts_23 : decode cX6_inserts 23 = .ok (.if_icmp .le 34, 3) := dk_164 0 34 (dk_at dksX6_inserts_1 0 rfl rfl)
theorem dX6_inserts_26 : decode cX6_inserts 26 = .ok (.aload_n 0, 1) := dk_42 (dk_at dksX6_inserts_1 3 rfl rfl)
theorem dX6_inserts_27 : decode cX6_inserts 27 = .ok (.iload_n 1, 1) := dk_27 (dk_at dksX6_inserts_1 4 rfl rfl)
theorem dX6_inserts_28 : decode cX6_inserts 28 = .ok (.iload 4, 2) := dk_21 4 (dk_at dksX6_inserts_1 5 rfl rfl)
theorem dX6_inserts_30 : decode cX6_inserts 30 = .ok (.aload_n 0, 1) := dk_42 (dk_at dksX6_inserts_1 7 rfl rfl)
theorem dX6_inserts_31 : decode cX6_inserts 31 = .ok (.iload_n 1, 1) := dk_27 (dk_at dksX6_inserts_1 8 rfl rfl)
theorem dX6_inserts_32 : decode cX6_inserts 32 = .ok (.iload 4, 2) := dk_21 4 (dk_at dksX6_inserts_1 9 rfl rfl)
theorem dX6_inserts_34 : decode cX6_inserts 34 = .ok (.iconst 1, 1) := dk_4 (dk_at dksX6_inserts_1 11 rfl rfl)
theorem dX6_inserts_35 : decode cX6_inserts 35 = .ok (.isub, 1) := dk_100 (dk_at dksX6_inserts_1 12 rfl rfl)
theorem dX6_inserts_36 : decode cX6_inserts 36 = .ok (.invokevirtual 78, 3) := dk_182 0 78 (dk_at dksX6_inserts_1 13 rfl rfl)
theorem dX6_inserts_39 : decode cX6_inserts 39 = .ok (.aload_n 0, 1) := dk_42 (dk_at dksX6_inserts_1 16 rfl rfl)
theorem dX6_inserts_40 : decode cX6_inserts 40 = .ok (.iload_n 1, 1) := dk_27 (dk_at dksX6_inserts_1 17 rfl rfl)
theorem dX6_inserts_41 : decode cX6_inserts 41 = .ok (.iload 4, 2) := dk_21 4 (dk_at dksX6_inserts_1 18 rfl rfl)
theorem dX6_inserts_43 : decode cX6_inserts 43 = .ok (.iconst 1, 1) := dk_4 (dk_at dksX6_inserts_1 20 rfl rfl)
theorem dX6_inserts_44 : decode cX6_inserts 44 = .ok (.isub, 1) := dk_100 (dk_at dksX6_inserts_1 21 rfl rfl)
theorem dX6_inserts_45 : decode cX6_inserts 45 = .ok (.invokevirtual 87, 3) := dk_182 0 87 (dk_at dksX6_inserts_2 0 rfl rfl)
theorem dX6_inserts_48 : decode cX6_inserts 48 = .ok (.invokevirtual 106, 3) := dk_182 0 106 (dk_at dksX6_inserts_2 3 rfl rfl)
theorem dX6_inserts_51 : decode cX6_inserts 51 = .ok (.iinc 4 (-1), 3) := dk_132 4 255 (dk_at dksX6_inserts_2 6 rfl rfl)
theorem dX6_inserts_54 : decode cX6_inserts 54 = .ok (.goto (-46), 3) := dk_167 255 210 (dk_at dksX6_inserts_2 9 rfl rfl)
theorem dX6_inserts_57 : decode cX6_inserts 57 = .ok (.aload_n 0, 1) := dk_42 (dk_at dksX6_inserts_2 12 rfl rfl)
theorem dX6_inserts_58 : decode cX6_inserts 58 = .ok (.iload_n 1, 1) := dk_27 (dk_at dksX6_inserts_2 13 rfl rfl)
theorem dX6_inserts_59 : decode cX6_inserts 59 = .ok (.iload 4, 2) := dk_21 4 (dk_at dksX6_inserts_2 14 rfl rfl)
theorem dX6_inserts_61 : decode cX6_inserts 61 = .ok (.iload_n 2, 1) := dk_28 (dk_at dksX6_inserts_2 16 rfl rfl)
theorem dX6_inserts_62 : decode cX6_inserts 62 = .ok (.iload_n 3, 1) := dk_29 (dk_at dksX6_inserts_2 17 rfl rfl)
theorem dX6_inserts_63 : decode cX6_inserts 63 = .ok (.invokevirtual 106, 3) := dk_182 0 106 (dk_at dksX6_inserts_2 18 rfl rfl)
theorem dX6_inserts_66 : decode cX6_inserts 66 = .ok (.aload_n 0, 1) := dk_42 (dk_at dksX6_inserts_2 21 rfl rfl)
theorem dX6_inserts_67 : decode cX6_inserts 67 = .ok (.iload_n 1, 1) := dk_27 (dk_at dksX6_inserts_2 22 rfl rfl)
theorem dX6_inserts_68 : decode cX6_inserts 68 = .ok (.iconst 2, 1) := dk_5 (dk_at dksX6_inserts_2 23 rfl rfl)
theorem dX6_inserts_69 : decode cX6_inserts 69 = .ok (.aload_n 0, 1) := dk_42 (dk_at dksX6_inserts_3 0 rfl rfl)
theorem dX6_inserts_70 : decode cX6_inserts 70 = .ok (.iload_n 1, 1) := dk_27 (dk_at dksX6_inserts_3 1 rfl rfl)
theorem dX6_inserts_71 : decode cX6_inserts 71 = .ok (.iconst 2, 1) := dk_5 (dk_at dksX6_inserts_3 2 rfl rfl)
theorem dX6_inserts_72 : decode cX6_inserts 72 = .ok (.invokevirtual 53, 3) := dk_182 0 53 (dk_at dksX6_inserts_3 3 rfl rfl)
theorem dX6_inserts_75 : decode cX6_inserts 75 = .ok (.iconst 1, 1) := dk_4 (dk_at dksX6_inserts_3 6 rfl rfl)
theorem dX6_inserts_76 : decode cX6_inserts 76 = .ok (.iadd, 1) := dk_96 (dk_at dksX6_inserts_3 7 rfl rfl)
theorem dX6_inserts_77 : decode cX6_inserts 77 = .ok (.invokevirtual 67, 3) := dk_182 0 67 (dk_at dksX6_inserts_3 8 rfl rfl)
theorem dX6_inserts_80 : decode cX6_inserts 80 = .ok (.return_, 1) := dk_177 (dk_at dksX6_inserts_3 11 rfl rfl)
/-! PageGardenModel.inserts(III)V -/
abbrev M_X6_inserts (z0 n0 : Nat) (s' : gS) : gM := (RX6, cX6_inserts, 5, none, "inserts", [], 3, z0, n0, s'.2.1, s'.2.2)
abbrev W_X6_inserts (E : gE) (z0 n0 : Nat) (r : Unit) (s' : gS) (pc : Nat) (L : List (Nat × gV)) (st : List gV) (s : gS) : Prop := gW E (M_X6_inserts z0 n0 s') (gQm E (M_X6_inserts z0 n0 s') (.inl none) s') pc L st s
noncomputable def f_X6_inserts_57 (κ : gK) (F : Nat)  (l0 : Option Nat) (l1 : Int32) (l2 : Int32) (l3 : Int32) (l4 : Int32) (s : gS) : Option (Unit × gS) :=
  gB1 (gck s l0 9) fun _ =>
  gB2 (f_X6_setEntry κ F l0 l1 l4 l2 l3 s) fun v2 s1 =>
  gB1 (gck s1 l0 9) fun _ =>
  gB2 (f_X6_of κ F l0 l1 (2 : Int32) s1) fun v5 s4 =>
  gB1 (gck s4 l0 9) fun _ =>
  gB2 (f_X6_lay κ F l0 l1 (2 : Int32) (v5 + (1 : Int32)) s4) fun v8 s7 =>
  some ((), s7)
set_option maxHeartbeats 4000000 in
theorem w_X6_inserts_57 {E : gE} {F z0 n0 : Nat} {r : Unit} {s' : gS}   : ∀ (l0 : Option Nat) (l1 : Int32) (l2 : Int32) (l3 : Int32) (l4 : Int32)  (s : gS), f_X6_inserts_57 (gk E) F  l0 l1 l2 l3 l4 s = some (r, s') → W_X6_inserts E z0 n0 r s' 57 [(0, vR l0), (1, vI l1), (2, vI l2), (3, vI l3), (4, vI l4)] [] s := by
  intro l0 l1 l2 l3 l4 s hB
  unfold f_X6_inserts_57 at hB
  refine gw_aload_n 0 rfl dX6_inserts_57 ?_
  refine gw_iload_n 1 rfl dX6_inserts_58 ?_
  refine gw_iload 4 rfl dX6_inserts_59 ?_
  refine gw_iload_n 2 rfl dX6_inserts_61 ?_
  refine gw_iload_n 3 rfl dX6_inserts_62 ?_
  obtain ⟨u0, hu3, hB⟩ := gB1_some hB
  obtain ⟨v2, s1, hv2, hB⟩ := gB2_some hB
  refine gw_callV (y := yX6_setEntry) (lw_V q2864 q2866 qs75 q143 q2867) hdV_X6_setEntry gcl9 hu3 (As := [vI l1, vI l4, vI l2, vI l3]) (rest := []) (m_X6_setEntry _ _ _ _ _ _ _ _ hv2) (Nat.le_of_ble_eq_true rfl) (Nat.le_of_ble_eq_true rfl) rfl (Nat.le_of_ble_eq_true rfl) dX6_inserts_63 (gCont_v ?_)
  refine gw_aload_n 0 rfl dX6_inserts_66 ?_
  refine gw_iload_n 1 rfl dX6_inserts_67 ?_
  refine gw_iconst (v := (2 : Int32)) (by decide) dX6_inserts_68 ?_
  refine gw_aload_n 0 rfl dX6_inserts_69 ?_
  refine gw_iload_n 1 rfl dX6_inserts_70 ?_
  refine gw_iconst (v := (2 : Int32)) (by decide) dX6_inserts_71 ?_
  obtain ⟨u0, hu6, hB⟩ := gB1_some hB
  obtain ⟨v5, s4, hv5, hB⟩ := gB2_some hB
  refine gw_callV (y := yX6_of) (lw_V q2796 q2798 qs58 q143 q2799) hdV_X6_of gcl9 hu6 (As := [vI l1, vI (2 : Int32)]) (rest := [vI (2 : Int32), vI l1, vR l0]) (m_X6_of _ _ _ _ _ _ hv5) (Nat.le_of_ble_eq_true rfl) (Nat.le_of_ble_eq_true rfl) rfl (Nat.le_of_ble_eq_true rfl) dX6_inserts_72 (gCont_i ?_)
  refine gw_iconst (v := (1 : Int32)) (by decide) dX6_inserts_75 ?_
  refine gw_iadd dX6_inserts_76 ?_
  obtain ⟨u0, hu9, hB⟩ := gB1_some hB
  obtain ⟨v8, s7, hv8, hB⟩ := gB2_some hB
  refine gw_callV (y := yX6_lay) (lw_V q2840 q2842 qs69 q143 q2843) hdV_X6_lay gcl9 hu9 (As := [vI l1, vI (2 : Int32), vI (v5 + (1 : Int32))]) (rest := []) (m_X6_lay _ _ _ _ _ _ _ hv8) (Nat.le_of_ble_eq_true rfl) (Nat.le_of_ble_eq_true rfl) rfl (Nat.le_of_ble_eq_true rfl) dX6_inserts_77 (gCont_v ?_)
  obtain ⟨rfl, rfl⟩ := Prod.mk.inj (Option.some.inj hB)
  exact gw_vret rfl rfl rfl dX6_inserts_80
noncomputable def f_X6_inserts_8b (κ : gK) (F : Nat) (k8 : Option Nat → Int32 → Int32 → Int32 → Int32 → gS → Option (Unit × gS)) (l0 : Option Nat) (l1 : Int32) (l2 : Int32) (l3 : Int32) (l4 : Int32) (s : gS) : Option (Unit × gS) :=
  if l4 ≤ 0 then
    f_X6_inserts_57 κ F  l0 l1 l2 l3 l4 s
  else
    gB1 (gck s l0 9) fun _ =>
    gB2 (f_X6_keyAt κ F l0 l1 (l4 - (1 : Int32)) s) fun v2 s1 =>
    if v2 ≤ l2 then
      f_X6_inserts_57 κ F  l0 l1 l2 l3 l4 s1
    else
      gB1 (gck s1 l0 9) fun _ =>
      gB2 (f_X6_keyAt κ F l0 l1 (l4 - (1 : Int32)) s1) fun v5 s4 =>
      gB1 (gck s4 l0 9) fun _ =>
      gB2 (f_X6_valueAt κ F l0 l1 (l4 - (1 : Int32)) s4) fun v8 s7 =>
      gB1 (gck s7 l0 9) fun _ =>
      gB2 (f_X6_setEntry κ F l0 l1 l4 v5 v8 s7) fun v11 s10 =>
      k8 l0 l1 l2 l3 (l4 + (-1 : Int32)) s10
noncomputable def f_X6_inserts_8 (κ : gK) (F : Nat)  : Nat → Option Nat → Int32 → Int32 → Int32 → Int32 → gS → Option (Unit × gS)
  | 0 => fun _ _ _ _ _ _ => none
  | n + 1 => f_X6_inserts_8b κ F  (f_X6_inserts_8 κ F  n)
set_option maxHeartbeats 4000000 in
theorem w_X6_inserts_8b {E : gE} {F z0 n0 : Nat} {r : Unit} {s' : gS} {k8 : Option Nat → Int32 → Int32 → Int32 → Int32 → gS → Option (Unit × gS)} (hk8 : ∀ (l0 : Option Nat) (l1 : Int32) (l2 : Int32) (l3 : Int32) (l4 : Int32) (s : gS), k8 l0 l1 l2 l3 l4 s = some (r, s') → W_X6_inserts E z0 n0 r s' 8 [(0, vR l0), (1, vI l1), (2, vI l2), (3, vI l3), (4, vI l4)] [] s) : ∀ (l0 : Option Nat) (l1 : Int32) (l2 : Int32) (l3 : Int32) (l4 : Int32)  (s : gS), f_X6_inserts_8b (gk E) F k8 l0 l1 l2 l3 l4 s = some (r, s') → W_X6_inserts E z0 n0 r s' 8 [(0, vR l0), (1, vI l1), (2, vI l2), (3, vI l3), (4, vI l4)] [] s := by
  intro l0 l1 l2 l3 l4 s hB
  unfold f_X6_inserts_8b at hB
  refine gw_iload 4 rfl dX6_inserts_8 ?_
  refine gw_if_le (tgt := 57) dX6_inserts_10 (by decide) (fun hcnd => ?_) (fun hcnd => ?_)
  · rw [if_pos hcnd] at hB
    exact gw_sub [0, 1, 2, 3, 4] rfl (w_X6_inserts_57  _ _ _ _ _ _ hB)
  · rw [if_neg hcnd] at hB
    refine gw_aload_n 0 rfl dX6_inserts_13 ?_
    refine gw_iload_n 1 rfl dX6_inserts_14 ?_
    refine gw_iload 4 rfl dX6_inserts_15 ?_
    refine gw_iconst (v := (1 : Int32)) (by decide) dX6_inserts_17 ?_
    refine gw_isub dX6_inserts_18 ?_
    obtain ⟨u0, hu3, hB⟩ := gB1_some hB
    obtain ⟨v2, s1, hv2, hB⟩ := gB2_some hB
    refine gw_callV (y := yX6_keyAt) (lw_V q2804 q2806 qs60 q143 q2807) hdV_X6_keyAt gcl9 hu3 (As := [vI l1, vI (l4 - (1 : Int32))]) (rest := []) (m_X6_keyAt _ _ _ _ _ _ hv2) (Nat.le_of_ble_eq_true rfl) (Nat.le_of_ble_eq_true rfl) rfl (Nat.le_of_ble_eq_true rfl) dX6_inserts_19 (gCont_i ?_)
    refine gw_iload_n 2 rfl dX6_inserts_22 ?_
    refine gw_icmp_le (tgt := 57) dX6_inserts_23 (by decide) (fun hcnd => ?_) (fun hcnd => ?_)
    · rw [if_pos hcnd] at hB
      exact gw_sub [0, 1, 2, 3, 4] rfl (w_X6_inserts_57  _ _ _ _ _ _ hB)
    · rw [if_neg hcnd] at hB
      refine gw_aload_n 0 rfl dX6_inserts_26 ?_
      refine gw_iload_n 1 rfl dX6_inserts_27 ?_
      refine gw_iload 4 rfl dX6_inserts_28 ?_
      refine gw_aload_n 0 rfl dX6_inserts_30 ?_
      refine gw_iload_n 1 rfl dX6_inserts_31 ?_
      refine gw_iload 4 rfl dX6_inserts_32 ?_
      refine gw_iconst (v := (1 : Int32)) (by decide) dX6_inserts_34 ?_
      refine gw_isub dX6_inserts_35 ?_
      obtain ⟨u0, hu6, hB⟩ := gB1_some hB
      obtain ⟨v5, s4, hv5, hB⟩ := gB2_some hB
      refine gw_callV (y := yX6_keyAt) (lw_V q2804 q2806 qs60 q143 q2807) hdV_X6_keyAt gcl9 hu6 (As := [vI l1, vI (l4 - (1 : Int32))]) (rest := [vI l4, vI l1, vR l0]) (m_X6_keyAt _ _ _ _ _ _ hv5) (Nat.le_of_ble_eq_true rfl) (Nat.le_of_ble_eq_true rfl) rfl (Nat.le_of_ble_eq_true rfl) dX6_inserts_36 (gCont_i ?_)
      refine gw_aload_n 0 rfl dX6_inserts_39 ?_
      refine gw_iload_n 1 rfl dX6_inserts_40 ?_
      refine gw_iload 4 rfl dX6_inserts_41 ?_
      refine gw_iconst (v := (1 : Int32)) (by decide) dX6_inserts_43 ?_
      refine gw_isub dX6_inserts_44 ?_
      obtain ⟨u0, hu9, hB⟩ := gB1_some hB
      obtain ⟨v8, s7, hv8, hB⟩ := gB2_some hB
      refine gw_callV (y := yX6_valueAt) (lw_V q2860 q2862 qs74 q143 q2863) hdV_X6_valueAt gcl9 hu9 (As := [vI l1, vI (l4 - (1 : Int32))]) (rest := [vI v5, vI l4, vI l1, vR l0]) (m_X6_valueAt _ _ _ _ _ _ hv8) (Nat.le_of_ble_eq_true rfl) (Nat.le_of_ble_eq_true rfl) rfl (Nat.le_of_ble_eq_true rfl) dX6_inserts_45 (gCont_i ?_)
      obtain ⟨u0, hu12, hB⟩ := gB1_some hB
      obtain ⟨v11, s10, hv11, hB⟩ := gB2_some hB
      refine gw_callV (y := yX6_setEntry) (lw_V q2864 q2866 qs75 q143 q2867) hdV_X6_setEntry gcl9 hu12 (As := [vI l1, vI l4, vI v5, vI v8]) (rest := []) (m_X6_setEntry _ _ _ _ _ _ _ _ hv11) (Nat.le_of_ble_eq_true rfl) (Nat.le_of_ble_eq_true rfl) rfl (Nat.le_of_ble_eq_true rfl) dX6_inserts_48 (gCont_v ?_)
      refine gw_iinc (w := (-1 : Int32)) (L' := [(4, vI (l4 + (-1 : Int32))), (0, vR l0), (1, vI l1), (2, vI l2), (3, vI l3)]) 4 rfl (by decide) (Nat.le_of_ble_eq_true rfl) rfl dX6_inserts_51 ?_
      refine gw_goto (tgt := 8) dX6_inserts_54 (by decide) ?_
      exact gw_sub [1, 2, 3, 4, 0] rfl (hk8 _ _ _ _ _ _ hB)
theorem w_X6_inserts_8 {E : gE} {F z0 n0 : Nat} {r : Unit} {s' : gS}   : ∀ (n : Nat) (l0 : Option Nat) (l1 : Int32) (l2 : Int32) (l3 : Int32) (l4 : Int32)  (s : gS), f_X6_inserts_8 (gk E) F  n l0 l1 l2 l3 l4 s = some (r, s') → W_X6_inserts E z0 n0 r s' 8 [(0, vR l0), (1, vI l1), (2, vI l2), (3, vI l3), (4, vI l4)] [] s := by
  intro n
  induction n with
  | zero => intro l0 l1 l2 l3 l4 s hB; cases hB
  | succ n ih => intro l0 l1 l2 l3 l4 s hB; exact w_X6_inserts_8b ih l0 l1 l2 l3 l4 s hB
noncomputable def f_X6_inserts_0 (κ : gK) (F : Nat)  (l0 : Option Nat) (l1 : Int32) (l2 : Int32) (l3 : Int32) (s : gS) : Option (Unit × gS) :=
  gB1 (gck s l0 9) fun _ =>
  gB2 (f_X6_of κ F l0 l1 (2 : Int32) s) fun v2 s1 =>
  f_X6_inserts_8 κ F  F l0 l1 l2 l3 v2 s1
set_option maxHeartbeats 4000000 in
theorem w_X6_inserts_0 {E : gE} {F z0 n0 : Nat} {r : Unit} {s' : gS}   : ∀ (l0 : Option Nat) (l1 : Int32) (l2 : Int32) (l3 : Int32)  (s : gS), f_X6_inserts_0 (gk E) F  l0 l1 l2 l3 s = some (r, s') → W_X6_inserts E z0 n0 r s' 0 [(0, vR l0), (1, vI l1), (2, vI l2), (3, vI l3)] [] s := by
  intro l0 l1 l2 l3 s hB
  unfold f_X6_inserts_0 at hB
  refine gw_aload_n 0 rfl dX6_inserts_0 ?_
  refine gw_iload_n 1 rfl dX6_inserts_1 ?_
  refine gw_iconst (v := (2 : Int32)) (by decide) dX6_inserts_2 ?_
  obtain ⟨u0, hu3, hB⟩ := gB1_some hB
  obtain ⟨v2, s1, hv2, hB⟩ := gB2_some hB
  refine gw_callV (y := yX6_of) (lw_V q2796 q2798 qs58 q143 q2799) hdV_X6_of gcl9 hu3 (As := [vI l1, vI (2 : Int32)]) (rest := []) (m_X6_of _ _ _ _ _ _ hv2) (Nat.le_of_ble_eq_true rfl) (Nat.le_of_ble_eq_true rfl) rfl (Nat.le_of_ble_eq_true rfl) dX6_inserts_3 (gCont_i ?_)
  refine gw_istore (L' := [(4, vI v2), (0, vR l0), (1, vI l1), (2, vI l2), (3, vI l3)]) (Nat.le_of_ble_eq_true rfl) rfl dX6_inserts_6 ?_
  exact gw_sub [1, 2, 3, 4, 0] rfl (w_X6_inserts_8  F _ _ _ _ _ _ hB)
noncomputable def f_X6_inserts (κ : gK) (F : Nat) (a0 : Option Nat) (a1 : Int32) (a2 : Int32) (a3 : Int32) (s : gS) : Option (Unit × gS) := f_X6_inserts_0 κ F a0 a1 a2 a3 s
theorem m_X6_inserts {E : gE} {F : Nat} (a0 : Option Nat) (a1 : Int32) (a2 : Int32) (a3 : Int32) (s : gS) (r : Unit) (s' : gS) (h : f_X6_inserts (gk E) F a0 a1 a2 a3 s = some (r, s')) : gCT E 3 yX6_inserts (ws_ yX6_inserts cX6_inserts 5 none) [vR a0, vI a1, vI a2, vI a3] s (.inl none) s' := by
  refine gCT_of2 (fun h => absurd h (by decide)) (plainFor_of_name (by decide)) (Nat.le_of_ble_eq_true rfl) ?_
  exact gw_sub [0, 1, 2, 3] rfl (w_X6_inserts_0 _ _ _ _ _ h)
def dkwX6_insertLeaf_2 : List UInt8 := [182, 0, 67, 42, 27, 5, 42, 27, 5, 182, 0, 53, 4, 96, 182, 0, 67, 177]
abbrev dktX6_insertLeaf_2 : List UInt8 := dkwX6_insertLeaf_2 ++ []
def dkwX6_insertLeaf_1 : List UInt8 := [21, 4, 4, 100, 182, 0, 75, 182, 0, 67, 132, 4, 255, 167, 255, 228, 42, 27, 16, 6, 28, 96, 29]
abbrev dktX6_insertLeaf_1 : List UInt8 := dkwX6_insertLeaf_1 ++ dktX6_insertLeaf_2
def dkwX6_insertLeaf_0 : List UInt8 := [42, 27, 5, 182, 0, 53, 54, 4, 21, 4, 28, 164, 0, 28, 42, 27, 16, 6, 21, 4, 96, 42, 27]
abbrev dktX6_insertLeaf_0 : List UInt8 := dkwX6_insertLeaf_0 ++ dktX6_insertLeaf_1
theorem dksX6_insertLeaf_0 : cX6_insertLeaf.data.toList.drop 0 = dktX6_insertLeaf_0 := by decide +kernel
theorem dksX6_insertLeaf_1 : cX6_insertLeaf.data.toList.drop 23 = dktX6_insertLeaf_1 := dk_seg dksX6_insertLeaf_0 23 rfl rfl
theorem dksX6_insertLeaf_2 : cX6_insertLeaf.data.toList.drop 46 = dktX6_insertLeaf_2 := dk_seg dksX6_insertLeaf_1 23 rfl rfl
theorem dX6_insertLeaf_0 : decode cX6_insertLeaf 0 = .ok (.aload_n 0, 1) := dk_42 (dk_at dksX6_insertLeaf_0 0 rfl rfl)
theorem dX6_insertLeaf_1 : decode cX6_insertLeaf 1 = .ok (.iload_n 1, 1) := dk_27 (dk_at dksX6_insertLeaf_0 1 rfl rfl)
theorem dX6_insertLeaf_2 : decode cX6_insertLeaf 2 = .ok (.iconst 2, 1) := dk_5 (dk_at dksX6_insertLeaf_0 2 rfl rfl)
theorem dX6_insertLeaf_3 : decode cX6_insertLeaf 3 = .ok (.invokevirtual 53, 3) := dk_182 0 53 (dk_at dksX6_insertLeaf_0 3 rfl rfl)
theorem dX6_insertLeaf_6 : decode cX6_insertLeaf 6 = .ok (.istore 4, 2) := dk_54 4 (dk_at dksX6_insertLeaf_0 6 rfl rfl)
theorem dX6_insertLeaf_8 : decode cX6_insertLeaf 8 = .ok (.iload 4, 2) := dk_21 4 (dk_at dksX6_insertLeaf_0 8 rfl rfl)
theorem dX6_insertLeaf_10 : decode cX6_insertLeaf 10 = .ok (.iload_n 2, 1) := dk_28 (dk_at dksX6_insertLeaf_0 10 rfl rfl)
theorem dX6_insertLeaf_11 : decode cX6_insertLeaf 11 = .ok (.if_icmp .le 28, 3) := dk_164 0 28 (dk_at dksX6_insertLeaf_0 11 rfl rfl)
theorem dX6_insertLeaf_14 : decode cX6_insertLeaf 14 = .ok (.aload_n 0, 1) := dk_42 (dk_at dksX6_insertLeaf_0 14 rfl rfl)
theorem dX6_insertLeaf_15 : decode cX6_insertLeaf 15 = .ok (.iload_n 1, 1) := dk_27 (dk_at dksX6_insertLeaf_0 15 rfl rfl)
theorem dX6_insertLeaf_16 : decode cX6_insertLeaf 16 = .ok (.bipush 6, 2) := dk_16 6 (dk_at dksX6_insertLeaf_0 16 rfl rfl)
theorem dX6_insertLeaf_18 : decode cX6_insertLeaf 18 = .ok (.iload 4, 2) := dk_21 4 (dk_at dksX6_insertLeaf_0 18 rfl rfl)
theorem dX6_insertLeaf_20 : decode cX6_insertLeaf 20 = .ok (.iadd, 1) := dk_96 (dk_at dksX6_insertLeaf_0 20 rfl rfl)
theorem dX6_insertLeaf_21 : decode cX6_insertLeaf 21 = .ok (.aload_n 0, 1) := dk_42 (dk_at dksX6_insertLeaf_0 21 rfl rfl)
theorem dX6_insertLeaf_22 : decode cX6_insertLeaf 22 = .ok (.iload_n 1, 1) := dk_27 (dk_at dksX6_insertLeaf_0 22 rfl rfl)
theorem dX6_insertLeaf_23 : decode cX6_insertLeaf 23 = .ok (.iload 4, 2) := dk_21 4 (dk_at dksX6_insertLeaf_1 0 rfl rfl)
theorem dX6_insertLeaf_25 : decode cX6_insertLeaf 25 = .ok (.iconst 1, 1) := dk_4 (dk_at dksX6_insertLeaf_1 2 rfl rfl)
theorem dX6_insertLeaf_26 : decode cX6_insertLeaf 26 = .ok (.isub, 1) := dk_100 (dk_at dksX6_insertLeaf_1 3 rfl rfl)
theorem dX6_insertLeaf_27 : decode cX6_insertLeaf 27 = .ok (.invokevirtual 75, 3) := dk_182 0 75 (dk_at dksX6_insertLeaf_1 4 rfl rfl)
theorem dX6_insertLeaf_30 : decode cX6_insertLeaf 30 = .ok (.invokevirtual 67, 3) := dk_182 0 67 (dk_at dksX6_insertLeaf_1 7 rfl rfl)
theorem dX6_insertLeaf_33 : decode cX6_insertLeaf 33 = .ok (.iinc 4 (-1), 3) := dk_132 4 255 (dk_at dksX6_insertLeaf_1 10 rfl rfl)
theorem dX6_insertLeaf_36 : decode cX6_insertLeaf 36 = .ok (.goto (-28), 3) := dk_167 255 228 (dk_at dksX6_insertLeaf_1 13 rfl rfl)
theorem dX6_insertLeaf_39 : decode cX6_insertLeaf 39 = .ok (.aload_n 0, 1) := dk_42 (dk_at dksX6_insertLeaf_1 16 rfl rfl)
theorem dX6_insertLeaf_40 : decode cX6_insertLeaf 40 = .ok (.iload_n 1, 1) := dk_27 (dk_at dksX6_insertLeaf_1 17 rfl rfl)
theorem dX6_insertLeaf_41 : decode cX6_insertLeaf 41 = .ok (.bipush 6, 2) := dk_16 6 (dk_at dksX6_insertLeaf_1 18 rfl rfl)
theorem dX6_insertLeaf_43 : decode cX6_insertLeaf 43 = .ok (.iload_n 2, 1) := dk_28 (dk_at dksX6_insertLeaf_1 20 rfl rfl)
theorem dX6_insertLeaf_44 : decode cX6_insertLeaf 44 = .ok (.iadd, 1) := dk_96 (dk_at dksX6_insertLeaf_1 21 rfl rfl)
theorem dX6_insertLeaf_45 : decode cX6_insertLeaf 45 = .ok (.iload_n 3, 1) := dk_29 (dk_at dksX6_insertLeaf_1 22 rfl rfl)
theorem dX6_insertLeaf_46 : decode cX6_insertLeaf 46 = .ok (.invokevirtual 67, 3) := dk_182 0 67 (dk_at dksX6_insertLeaf_2 0 rfl rfl)
theorem dX6_insertLeaf_49 : decode cX6_insertLeaf 49 = .ok (.aload_n 0, 1) := dk_42 (dk_at dksX6_insertLeaf_2 3 rfl rfl)
theorem dX6_insertLeaf_50 : decode cX6_insertLeaf 50 = .ok (.iload_n 1, 1) := dk_27 (dk_at dksX6_insertLeaf_2 4 rfl rfl)
theorem dX6_insertLeaf_51 : decode cX6_insertLeaf 51 = .ok (.iconst 2, 1) := dk_5 (dk_at dksX6_insertLeaf_2 5 rfl rfl)
theorem dX6_insertLeaf_52 : decode cX6_insertLeaf 52 = .ok (.aload_n 0, 1) := dk_42 (dk_at dksX6_insertLeaf_2 6 rfl rfl)
theorem dX6_insertLeaf_53 : decode cX6_insertLeaf 53 = .ok (.iload_n 1, 1) := dk_27 (dk_at dksX6_insertLeaf_2 7 rfl rfl)
theorem dX6_insertLeaf_54 : decode cX6_insertLeaf 54 = .ok (.iconst 2, 1) := dk_5 (dk_at dksX6_insertLeaf_2 8 rfl rfl)
theorem dX6_insertLeaf_55 : decode cX6_insertLeaf 55 = .ok (.invokevirtual 53, 3) := dk_182 0 53 (dk_at dksX6_insertLeaf_2 9 rfl rfl)
theorem dX6_insertLeaf_58 : decode cX6_insertLeaf 58 = .ok (.iconst 1, 1) := dk_4 (dk_at dksX6_insertLeaf_2 12 rfl rfl)
theorem dX6_insertLeaf_59 : decode cX6_insertLeaf 59 = .ok (.iadd, 1) := dk_96 (dk_at dksX6_insertLeaf_2 13 rfl rfl)
theorem dX6_insertLeaf_60 : decode cX6_insertLeaf 60 = .ok (.invokevirtual 67, 3) := dk_182 0 67 (dk_at dksX6_insertLeaf_2 14 rfl rfl)
theorem dX6_insertLeaf_63 : decode cX6_insertLeaf 63 = .ok (.return_, 1) := dk_177 (dk_at dksX6_insertLeaf_2 17 rfl rfl)
/-! PageGardenModel.insertLeaf(III)V -/
abbrev M_X6_insertLeaf (z0 n0 : Nat) (s' : gS) : gM := (RX6, cX6_insertLeaf, 5, none, "insertLeaf", [], 3, z0, n0, s'.2.1, s'.2.2)
abbrev W_X6_insertLeaf (E : gE) (z0 n0 : Nat) (r : Unit) (s' : gS) (pc : Nat) (L : List (Nat × gV)) (st : List gV) (s : gS) : Prop := gW E (M_X6_insertLeaf z0 n0 s') (gQm E (M_X6_insertLeaf z0 n0 s') (.inl none) s') pc L st s
noncomputable def f_X6_insertLeaf_8b (κ : gK) (F : Nat) (k8 : Option Nat → Int32 → Int32 → Int32 → Int32 → gS → Option (Unit × gS)) (l0 : Option Nat) (l1 : Int32) (l2 : Int32) (l3 : Int32) (l4 : Int32) (s : gS) : Option (Unit × gS) :=
  if l4 ≤ l2 then
    gB1 (gck s l0 9) fun _ =>
    gB2 (f_X6_lay κ F l0 l1 ((6 : Int32) + l2) l3 s) fun v2 s1 =>
    gB1 (gck s1 l0 9) fun _ =>
    gB2 (f_X6_of κ F l0 l1 (2 : Int32) s1) fun v5 s4 =>
    gB1 (gck s4 l0 9) fun _ =>
    gB2 (f_X6_lay κ F l0 l1 (2 : Int32) (v5 + (1 : Int32)) s4) fun v8 s7 =>
    some ((), s7)
  else
    gB1 (gck s l0 9) fun _ =>
    gB2 (f_X6_leafAt κ F l0 l1 (l4 - (1 : Int32)) s) fun v11 s10 =>
    gB1 (gck s10 l0 9) fun _ =>
    gB2 (f_X6_lay κ F l0 l1 ((6 : Int32) + l4) v11 s10) fun v14 s13 =>
    k8 l0 l1 l2 l3 (l4 + (-1 : Int32)) s13
noncomputable def f_X6_insertLeaf_8 (κ : gK) (F : Nat)  : Nat → Option Nat → Int32 → Int32 → Int32 → Int32 → gS → Option (Unit × gS)
  | 0 => fun _ _ _ _ _ _ => none
  | n + 1 => f_X6_insertLeaf_8b κ F  (f_X6_insertLeaf_8 κ F  n)
set_option maxHeartbeats 4000000 in
theorem w_X6_insertLeaf_8b {E : gE} {F z0 n0 : Nat} {r : Unit} {s' : gS} {k8 : Option Nat → Int32 → Int32 → Int32 → Int32 → gS → Option (Unit × gS)} (hk8 : ∀ (l0 : Option Nat) (l1 : Int32) (l2 : Int32) (l3 : Int32) (l4 : Int32) (s : gS), k8 l0 l1 l2 l3 l4 s = some (r, s') → W_X6_insertLeaf E z0 n0 r s' 8 [(0, vR l0), (1, vI l1), (2, vI l2), (3, vI l3), (4, vI l4)] [] s) : ∀ (l0 : Option Nat) (l1 : Int32) (l2 : Int32) (l3 : Int32) (l4 : Int32)  (s : gS), f_X6_insertLeaf_8b (gk E) F k8 l0 l1 l2 l3 l4 s = some (r, s') → W_X6_insertLeaf E z0 n0 r s' 8 [(0, vR l0), (1, vI l1), (2, vI l2), (3, vI l3), (4, vI l4)] [] s := by
  intro l0 l1 l2 l3 l4 s hB
  unfold f_X6_insertLeaf_8b at hB
  refine gw_iload 4 rfl dX6_insertLeaf_8 ?_
  refine gw_iload_n 2 rfl dX6_insertLeaf_10 ?_
  refine gw_icmp_le (tgt := 39) dX6_insertLeaf_11 (by decide) (fun hcnd => ?_) (fun hcnd => ?_)
  · rw [if_pos hcnd] at hB
    refine gw_aload_n 0 rfl dX6_insertLeaf_39 ?_
    refine gw_iload_n 1 rfl dX6_insertLeaf_40 ?_
    refine gw_bipush (v := (6 : Int32)) (by decide) dX6_insertLeaf_41 ?_
    refine gw_iload_n 2 rfl dX6_insertLeaf_43 ?_
    refine gw_iadd dX6_insertLeaf_44 ?_
    refine gw_iload_n 3 rfl dX6_insertLeaf_45 ?_
    obtain ⟨u0, hu3, hB⟩ := gB1_some hB
    obtain ⟨v2, s1, hv2, hB⟩ := gB2_some hB
    refine gw_callV (y := yX6_lay) (lw_V q2840 q2842 qs69 q143 q2843) hdV_X6_lay gcl9 hu3 (As := [vI l1, vI ((6 : Int32) + l2), vI l3]) (rest := []) (m_X6_lay _ _ _ _ _ _ _ hv2) (Nat.le_of_ble_eq_true rfl) (Nat.le_of_ble_eq_true rfl) rfl (Nat.le_of_ble_eq_true rfl) dX6_insertLeaf_46 (gCont_v ?_)
    refine gw_aload_n 0 rfl dX6_insertLeaf_49 ?_
    refine gw_iload_n 1 rfl dX6_insertLeaf_50 ?_
    refine gw_iconst (v := (2 : Int32)) (by decide) dX6_insertLeaf_51 ?_
    refine gw_aload_n 0 rfl dX6_insertLeaf_52 ?_
    refine gw_iload_n 1 rfl dX6_insertLeaf_53 ?_
    refine gw_iconst (v := (2 : Int32)) (by decide) dX6_insertLeaf_54 ?_
    obtain ⟨u0, hu6, hB⟩ := gB1_some hB
    obtain ⟨v5, s4, hv5, hB⟩ := gB2_some hB
    refine gw_callV (y := yX6_of) (lw_V q2796 q2798 qs58 q143 q2799) hdV_X6_of gcl9 hu6 (As := [vI l1, vI (2 : Int32)]) (rest := [vI (2 : Int32), vI l1, vR l0]) (m_X6_of _ _ _ _ _ _ hv5) (Nat.le_of_ble_eq_true rfl) (Nat.le_of_ble_eq_true rfl) rfl (Nat.le_of_ble_eq_true rfl) dX6_insertLeaf_55 (gCont_i ?_)
    refine gw_iconst (v := (1 : Int32)) (by decide) dX6_insertLeaf_58 ?_
    refine gw_iadd dX6_insertLeaf_59 ?_
    obtain ⟨u0, hu9, hB⟩ := gB1_some hB
    obtain ⟨v8, s7, hv8, hB⟩ := gB2_some hB
    refine gw_callV (y := yX6_lay) (lw_V q2840 q2842 qs69 q143 q2843) hdV_X6_lay gcl9 hu9 (As := [vI l1, vI (2 : Int32), vI (v5 + (1 : Int32))]) (rest := []) (m_X6_lay _ _ _ _ _ _ _ hv8) (Nat.le_of_ble_eq_true rfl) (Nat.le_of_ble_eq_true rfl) rfl (Nat.le_of_ble_eq_true rfl) dX6_insertLeaf_60 (gCont_v ?_)
    obtain ⟨rfl, rfl⟩ := Prod.mk.inj (Option.some.inj hB)
    exact gw_vret rfl rfl rfl dX6_insertLeaf_63
  · rw [if_neg hcnd] at hB
    refine gw_aload_n 0 rfl dX6_insertLeaf_14 ?_
    refine gw_iload_n 1 rfl dX6_insertLeaf_15 ?_
    refine gw_bipush (v := (6 : Int32)) (by decide) dX6_insertLeaf_16 ?_
    refine gw_iload 4 rfl dX6_insertLeaf_18 ?_
    refine gw_iadd dX6_insertLeaf_20 ?_
    refine gw_aload_n 0 rfl dX6_insertLeaf_21 ?_
    refine gw_iload_n 1 rfl dX6_insertLeaf_22 ?_
    refine gw_iload 4 rfl dX6_insertLeaf_23 ?_
    refine gw_iconst (v := (1 : Int32)) (by decide) dX6_insertLeaf_25 ?_
    refine gw_isub dX6_insertLeaf_26 ?_
    obtain ⟨u0, hu12, hB⟩ := gB1_some hB
    obtain ⟨v11, s10, hv11, hB⟩ := gB2_some hB
    refine gw_callV (y := yX6_leafAt) (lw_V q2800 q2802 qs59 q143 q2803) hdV_X6_leafAt gcl9 hu12 (As := [vI l1, vI (l4 - (1 : Int32))]) (rest := [vI ((6 : Int32) + l4), vI l1, vR l0]) (m_X6_leafAt _ _ _ _ _ _ hv11) (Nat.le_of_ble_eq_true rfl) (Nat.le_of_ble_eq_true rfl) rfl (Nat.le_of_ble_eq_true rfl) dX6_insertLeaf_27 (gCont_i ?_)
    obtain ⟨u0, hu15, hB⟩ := gB1_some hB
    obtain ⟨v14, s13, hv14, hB⟩ := gB2_some hB
    refine gw_callV (y := yX6_lay) (lw_V q2840 q2842 qs69 q143 q2843) hdV_X6_lay gcl9 hu15 (As := [vI l1, vI ((6 : Int32) + l4), vI v11]) (rest := []) (m_X6_lay _ _ _ _ _ _ _ hv14) (Nat.le_of_ble_eq_true rfl) (Nat.le_of_ble_eq_true rfl) rfl (Nat.le_of_ble_eq_true rfl) dX6_insertLeaf_30 (gCont_v ?_)
    refine gw_iinc (w := (-1 : Int32)) (L' := [(4, vI (l4 + (-1 : Int32))), (0, vR l0), (1, vI l1), (2, vI l2), (3, vI l3)]) 4 rfl (by decide) (Nat.le_of_ble_eq_true rfl) rfl dX6_insertLeaf_33 ?_
    refine gw_goto (tgt := 8) dX6_insertLeaf_36 (by decide) ?_
    exact gw_sub [1, 2, 3, 4, 0] rfl (hk8 _ _ _ _ _ _ hB)
theorem w_X6_insertLeaf_8 {E : gE} {F z0 n0 : Nat} {r : Unit} {s' : gS}   : ∀ (n : Nat) (l0 : Option Nat) (l1 : Int32) (l2 : Int32) (l3 : Int32) (l4 : Int32)  (s : gS), f_X6_insertLeaf_8 (gk E) F  n l0 l1 l2 l3 l4 s = some (r, s') → W_X6_insertLeaf E z0 n0 r s' 8 [(0, vR l0), (1, vI l1), (2, vI l2), (3, vI l3), (4, vI l4)] [] s := by
  intro n
  induction n with
  | zero => intro l0 l1 l2 l3 l4 s hB; cases hB
  | succ n ih => intro l0 l1 l2 l3 l4 s hB; exact w_X6_insertLeaf_8b ih l0 l1 l2 l3 l4 s hB
noncomputable def f_X6_insertLeaf_0 (κ : gK) (F : Nat)  (l0 : Option Nat) (l1 : Int32) (l2 : Int32) (l3 : Int32) (s : gS) : Option (Unit × gS) :=
  gB1 (gck s l0 9) fun _ =>
  gB2 (f_X6_of κ F l0 l1 (2 : Int32) s) fun v2 s1 =>
  f_X6_insertLeaf_8 κ F  F l0 l1 l2 l3 v2 s1
set_option maxHeartbeats 4000000 in
theorem w_X6_insertLeaf_0 {E : gE} {F z0 n0 : Nat} {r : Unit} {s' : gS}   : ∀ (l0 : Option Nat) (l1 : Int32) (l2 : Int32) (l3 : Int32)  (s : gS), f_X6_insertLeaf_0 (gk E) F  l0 l1 l2 l3 s = some (r, s') → W_X6_insertLeaf E z0 n0 r s' 0 [(0, vR l0), (1, vI l1), (2, vI l2), (3, vI l3)] [] s := by
  intro l0 l1 l2 l3 s hB
  unfold f_X6_insertLeaf_0 at hB
  refine gw_aload_n 0 rfl dX6_insertLeaf_0 ?_
  refine gw_iload_n 1 rfl dX6_insertLeaf_1 ?_
  refine gw_iconst (v := (2 : Int32)) (by decide) dX6_insertLeaf_2 ?_
  obtain ⟨u0, hu3, hB⟩ := gB1_some hB
  obtain ⟨v2, s1, hv2, hB⟩ := gB2_some hB
  refine gw_callV (y := yX6_of) (lw_V q2796 q2798 qs58 q143 q2799) hdV_X6_of gcl9 hu3 (As := [vI l1, vI (2 : Int32)]) (rest := []) (m_X6_of _ _ _ _ _ _ hv2) (Nat.le_of_ble_eq_true rfl) (Nat.le_of_ble_eq_true rfl) rfl (Nat.le_of_ble_eq_true rfl) dX6_insertLeaf_3 (gCont_i ?_)
  refine gw_istore (L' := [(4, vI v2), (0, vR l0), (1, vI l1), (2, vI l2), (3, vI l3)]) (Nat.le_of_ble_eq_true rfl) rfl dX6_insertLeaf_6 ?_
  exact gw_sub [1, 2, 3, 4, 0] rfl (w_X6_insertLeaf_8  F _ _ _ _ _ _ hB)
noncomputable def f_X6_insertLeaf (κ : gK) (F : Nat) (a0 : Option Nat) (a1 : Int32) (a2 : Int32) (a3 : Int32) (s : gS) : Option (Unit × gS) := f_X6_insertLeaf_0 κ F a0 a1 a2 a3 s
theorem m_X6_insertLeaf {E : gE} {F : Nat} (a0 : Option Nat) (a1 : Int32) (a2 : Int32) (a3 : Int32) (s : gS) (r : Unit) (s' : gS) (h : f_X6_insertLeaf (gk E) F a0 a1 a2 a3 s = some (r, s')) : gCT E 3 yX6_insertLeaf (ws_ yX6_insertLeaf cX6_insertLeaf 5 none) [vR a0, vI a1, vI a2, vI a3] s (.inl none) s' := by
  refine gCT_of2 (fun h => absurd h (by decide)) (plainFor_of_name (by decide)) (Nat.le_of_ble_eq_true rfl) ?_
  exact gw_sub [0, 1, 2, 3] rfl (w_X6_insertLeaf_0 _ _ _ _ _ h)
