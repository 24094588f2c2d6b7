set_option maxRecDepth 100000
def dkwX0_reader_0 : List UInt8 := [45, 3, 42, 27, 28, 182, 0, 54, 133, 80, 167, 0, 11, 58, 4, 4, 172, 58, 4, 5, 172, 3, 172]
abbrev dktX0_reader_0 : List UInt8 := dkwX0_reader_0 ++ []
theorem dksX0_reader_0 : cX0_reader.data.toList.drop 0 = dktX0_reader_0 := by decide +kernel
theorem dX0_reader_0 : decode cX0_reader 0 = .ok (.aload_n 3, 1) := dk_45 (dk_at dksX0_reader_0 0 rfl rfl)
theorem dX0_reader_1 : decode cX0_reader 1 = .ok (.iconst 0, 1) := dk_3 (dk_at dksX0_reader_0 1 rfl rfl)
theorem dX0_reader_2 : decode cX0_reader 2 = .ok (.aload_n 0, 1) := dk_42 (dk_at dksX0_reader_0 2 rfl rfl)
theorem dX0_reader_3 : decode cX0_reader 3 = .ok (.iload_n 1, 1) := dk_27 (dk_at dksX0_reader_0 3 rfl rfl)
theorem dX0_reader_4 : decode cX0_reader 4 = .ok (.iload_n 2, 1) := dk_28 (dk_at dksX0_reader_0 4 rfl rfl)
theorem dX0_reader_5 : decode cX0_reader 5 = .ok (.invokevirtual 54, 3) := dk_182 0 54 (dk_at dksX0_reader_0 5 rfl rfl)
theorem dX0_reader_8 : decode cX0_reader 8 = .ok (.i2l, 1) := dk_133 (dk_at dksX0_reader_0 8 rfl rfl)
theorem dX0_reader_9 : decode cX0_reader 9 = .ok (.lastore, 1) := dk_80 (dk_at dksX0_reader_0 9 rfl rfl)
theorem dX0_reader_10 : decode cX0_reader 10 = .ok (.goto 11, 3) := dk_167 0 11 (dk_at dksX0_reader_0 10 rfl rfl)
theorem dX0_reader_13 : decode cX0_reader 13 = .ok (.astore 4, 2) := dk_58 4 (dk_at dksX0_reader_0 13 rfl rfl)
theorem dX0_reader_15 : decode cX0_reader 15 = .ok (.iconst 1, 1) := dk_4 (dk_at dksX0_reader_0 15 rfl rfl)
theorem dX0_reader_16 : decode cX0_reader 16 = .ok (.ireturn, 1) := dk_172 (dk_at dksX0_reader_0 16 rfl rfl)
theorem dX0_reader_17 : decode cX0_reader 17 = .ok (.astore 4, 2) := dk_58 4 (dk_at dksX0_reader_0 17 rfl rfl)
theorem dX0_reader_19 : decode cX0_reader 19 = .ok (.iconst 2, 1) := dk_5 (dk_at dksX0_reader_0 19 rfl rfl)
theorem dX0_reader_20 : decode cX0_reader 20 = .ok (.ireturn, 1) := dk_172 (dk_at dksX0_reader_0 20 rfl rfl)
theorem dX0_reader_21 : decode cX0_reader 21 = .ok (.iconst 0, 1) := dk_3 (dk_at dksX0_reader_0 21 rfl rfl)
theorem dX0_reader_22 : decode cX0_reader 22 = .ok (.ireturn, 1) := dk_172 (dk_at dksX0_reader_0 22 rfl rfl)
/-! PageGardenLaw.reader(LPageGarden;II[J)I -/
abbrev M_X0_reader (z0 n0 : Nat) (s' : gS) : gM := (RX0, cX0_reader, 5, (some FieldType.int), "reader", tableOf [(0, 10, 13, 37), (0, 10, 17, 19)], 112, z0, n0, s'.2.1, s'.2.2)
abbrev W_X0_reader (E : gE) (z0 n0 : Nat) (r : Int32) (s' : gS) (pc : Nat) (L : List (Nat × gV)) (st : List gV) (s : gS) : Prop := gW E (M_X0_reader z0 n0 s') (gQm E (M_X0_reader z0 n0 s') (.inl (some (vI r))) s') pc L st s
noncomputable def f_X0_reader_13 (κ : gK) (F : Nat)   (s : gS) : Option (Int32 × gS) :=
  some ((1 : Int32), s)
set_option maxHeartbeats 4000000 in
theorem w_X0_reader_13 {E : gE} {F z0 n0 : Nat} {r : Int32} {s' : gS}   : ∀   (q : Option Nat) (s : gS), f_X0_reader_13 (gk E) F   s = some (r, s') → W_X0_reader E z0 n0 r s' 13 [] [vR q] s := by
  intro  q s hB
  unfold f_X0_reader_13 at hB
  refine gw_astore (L' := [(4, vR q)]) (Nat.le_of_ble_eq_true rfl) rfl dX0_reader_13 ?_
  refine gw_iconst (v := (1 : Int32)) (by decide) dX0_reader_15 ?_
  obtain ⟨rfl, rfl⟩ := Prod.mk.inj (Option.some.inj hB)
  exact gw_iret rfl rfl rfl dX0_reader_16
noncomputable def f_X0_reader_17 (κ : gK) (F : Nat)   (s : gS) : Option (Int32 × gS) :=
  some ((2 : Int32), s)
set_option maxHeartbeats 4000000 in
theorem w_X0_reader_17 {E : gE} {F z0 n0 : Nat} {r : Int32} {s' : gS}   : ∀   (q : Option Nat) (s : gS), f_X0_reader_17 (gk E) F   s = some (r, s') → W_X0_reader E z0 n0 r s' 17 [] [vR q] s := by
  intro  q s hB
  unfold f_X0_reader_17 at hB
  refine gw_astore (L' := [(4, vR q)]) (Nat.le_of_ble_eq_true rfl) rfl dX0_reader_17 ?_
  refine gw_iconst (v := (2 : Int32)) (by decide) dX0_reader_19 ?_
  obtain ⟨rfl, rfl⟩ := Prod.mk.inj (Option.some.inj hB)
  exact gw_iret rfl rfl rfl dX0_reader_20
noncomputable def f_X0_reader_0 (κ : gK) (F : Nat)  (l0 : Option Nat) (l1 : Int32) (l2 : Int32) (l3 : Option Nat) (s : gS) : Option (Int32 × gS) :=
  gB1 (gck s l0 0) fun _ =>
  gBy (f_X1_reader κ F l0 l1 l2 s) (fun Cv2 s1 =>
    if Cv2 = "java/lang/IndexOutOfBoundsException" then f_X0_reader_13 κ F  s1 else
    if Cv2 = "java/lang/IllegalArgumentException" then f_X0_reader_17 κ F  s1 else
    none) <| fun v2 s1 =>
  gB1 (gsJ κ s1 l3 (0 : Int32) (v2.toInt64)) fun s4 =>
  some ((0 : Int32), s4)
set_option maxHeartbeats 4000000 in
theorem w_X0_reader_0 {E : gE} {F z0 n0 : Nat} {r : Int32} {s' : gS}   : ∀ (l0 : Option Nat) (l1 : Int32) (l2 : Int32) (l3 : Option Nat)  (s : gS), f_X0_reader_0 (gk E) F  l0 l1 l2 l3 s = some (r, s') → W_X0_reader E z0 n0 r s' 0 [(0, vR l0), (1, vI l1), (2, vI l2), (3, vR l3)] [] s := by
  intro l0 l1 l2 l3 s hB
  unfold f_X0_reader_0 at hB
  refine gw_aload_n 3 rfl dX0_reader_0 ?_
  refine gw_iconst (v := (0 : Int32)) (by decide) dX0_reader_1 ?_
  refine gw_aload_n 0 rfl dX0_reader_2 ?_
  refine gw_iload_n 1 rfl dX0_reader_3 ?_
  refine gw_iload_n 2 rfl dX0_reader_4 ?_
  obtain ⟨u0, hu3, hB⟩ := gB1_some hB
  rcases gBy_some hB with ⟨v2, s1, hv2, hB⟩ | ⟨Cv2, s1, hv2, hB⟩
  rotate_left
  · by_cases hc0 : Cv2 = "java/lang/IndexOutOfBoundsException"
    · rw [if_pos hc0] at hB
      subst hc0
      exact gw_callV (y := yX1_reader) (lw_V q2601 q2602 q2603 q108 q2604) hdV_X1_reader gcl0 hu3 (As := [vI l1, vI l2]) (rest := [vI (0 : Int32), vR l3]) (m_X1_reader _ _ _ _ _ _ hv2) (Nat.le_of_ble_eq_true rfl) (Nat.le_of_ble_eq_true rfl) rfl (Nat.le_of_ble_eq_true rfl) dX0_reader_5 (gCont_x (gx_catch (own := "PageGardenLaw") rfl [] ⟨0, 10, 13, 37⟩ [⟨0, 10, 17, 19⟩] rfl (fun z hz => by cases hz) rfl (by decide) q2541 q2286 (tgt := 13) rfl (fun q => gw_sub [] rfl (w_X0_reader_13  q _ hB))))
    · rw [if_neg hc0] at hB
      by_cases hc1 : Cv2 = "java/lang/IllegalArgumentException"
      · rw [if_pos hc1] at hB
        subst hc1
        exact gw_callV (y := yX1_reader) (lw_V q2601 q2602 q2603 q108 q2604) hdV_X1_reader gcl0 hu3 (As := [vI l1, vI l2]) (rest := [vI (0 : Int32), vR l3]) (m_X1_reader _ _ _ _ _ _ hv2) (Nat.le_of_ble_eq_true rfl) (Nat.le_of_ble_eq_true rfl) rfl (Nat.le_of_ble_eq_true rfl) dX0_reader_5 (gCont_x (gx_catch (own := "PageGardenLaw") rfl [⟨0, 10, 13, 37⟩] ⟨0, 10, 17, 19⟩ [] rfl (fun z hz => by
          rcases List.mem_cons.mp hz with rfl | hz
          · exact Or.inr ⟨by decide, "java/lang/IndexOutOfBoundsException", q2541, by decide⟩
          cases hz) rfl (by decide) q2505 q430 (tgt := 17) rfl (fun q => gw_sub [] rfl (w_X0_reader_17  q _ hB))))
      · rw [if_neg hc1] at hB
        cases hB
  refine gw_callV (y := yX1_reader) (lw_V q2601 q2602 q2603 q108 q2604) hdV_X1_reader gcl0 hu3 (As := [vI l1, vI l2]) (rest := [vI (0 : Int32), vR l3]) (m_X1_reader _ _ _ _ _ _ hv2) (Nat.le_of_ble_eq_true rfl) (Nat.le_of_ble_eq_true rfl) rfl (Nat.le_of_ble_eq_true rfl) dX0_reader_5 (gCont_i ?_)
  refine gw_i2l dX0_reader_8 ?_
  obtain ⟨s4, hs4, hB⟩ := gB1_some hB
  refine gw_lastore hs4 dX0_reader_9 ?_
  refine gw_goto (tgt := 21) dX0_reader_10 (by decide) ?_
  refine gw_iconst (v := (0 : Int32)) (by decide) dX0_reader_21 ?_
  obtain ⟨rfl, rfl⟩ := Prod.mk.inj (Option.some.inj hB)
  exact gw_iret rfl rfl rfl dX0_reader_22
noncomputable def f_X0_reader (κ : gK) (F : Nat) (a1 : Option Nat) (a2 : Int32) (a3 : Int32) (a4 : Option Nat) (s : gS) : Option (Int32 × gS) := f_X0_reader_0 κ F a1 a2 a3 a4 s
theorem m_X0_reader {E : gE} {F : Nat} (a1 : Option Nat) (a2 : Int32) (a3 : Int32) (a4 : Option Nat) (s : gS) (r : Int32) (s' : gS) (h : f_X0_reader (gk E) F a1 a2 a3 a4 s = some (r, s')) : gCT E 112 yX0_reader (wsW_ yX0_reader cX0_reader 5 (some FieldType.int) [(0, 10, 13, 37), (0, 10, 17, 19)]) [vR a1, vI a2, vI a3, vR a4] s (.inl (some (vI r))) s' := by
  refine gCT_ofH (fun h => absurd h (by decide)) (by decide) (Nat.le_of_ble_eq_true rfl) ?_
  exact gw_sub [0, 1, 2, 3] rfl (w_X0_reader_0 _ _ _ _ _ h)
def dkwX0_reason_0 : List UInt8 := [44, 3, 42, 27, 182, 0, 66, 133, 80, 167, 0, 9, 78, 4, 172, 78, 5, 172, 3, 172]
abbrev dktX0_reason_0 : List UInt8 := dkwX0_reason_0 ++ []
theorem dksX0_reason_0 : cX0_reason.data.toList.drop 0 = dktX0_reason_0 := by decide +kernel
theorem dX0_reason_0 : decode cX0_reason 0 = .ok (.aload_n 2, 1) := dk_44 (dk_at dksX0_reason_0 0 rfl rfl)
theorem dX0_reason_1 : decode cX0_reason 1 = .ok (.iconst 0, 1) := dk_3 (dk_at dksX0_reason_0 1 rfl rfl)
theorem dX0_reason_2 : decode cX0_reason 2 = .ok (.aload_n 0, 1) := dk_42 (dk_at dksX0_reason_0 2 rfl rfl)
theorem dX0_reason_3 : decode cX0_reason 3 = .ok (.iload_n 1, 1) := dk_27 (dk_at dksX0_reason_0 3 rfl rfl)
theorem dX0_reason_4 : decode cX0_reason 4 = .ok (.invokevirtual 66, 3) := dk_182 0 66 (dk_at dksX0_reason_0 4 rfl rfl)
theorem dX0_reason_7 : decode cX0_reason 7 = .ok (.i2l, 1) := dk_133 (dk_at dksX0_reason_0 7 rfl rfl)
theorem dX0_reason_8 : decode cX0_reason 8 = .ok (.lastore, 1) := dk_80 (dk_at dksX0_reason_0 8 rfl rfl)
theorem dX0_reason_9 : decode cX0_reason 9 = .ok (.goto 9, 3) := dk_167 0 9 (dk_at dksX0_reason_0 9 rfl rfl)
theorem dX0_reason_12 : decode cX0_reason 12 = .ok (.astore_n 3, 1) := dk_78 (dk_at dksX0_reason_0 12 rfl rfl)
theorem dX0_reason_13 : decode cX0_reason 13 = .ok (.iconst 1, 1) := dk_4 (dk_at dksX0_reason_0 13 rfl rfl)
theorem dX0_reason_14 : decode cX0_reason 14 = .ok (.ireturn, 1) := dk_172 (dk_at dksX0_reason_0 14 rfl rfl)
theorem dX0_reason_15 : decode cX0_reason 15 = .ok (.astore_n 3, 1) := dk_78 (dk_at dksX0_reason_0 15 rfl rfl)
theorem dX0_reason_16 : decode cX0_reason 16 = .ok (.iconst 2, 1) := dk_5 (dk_at dksX0_reason_0 16 rfl rfl)
theorem dX0_reason_17 : decode cX0_reason 17 = .ok (.ireturn, 1) := dk_172 (dk_at dksX0_reason_0 17 rfl rfl)
theorem dX0_reason_18 : decode cX0_reason 18 = .ok (.iconst 0, 1) := dk_3 (dk_at dksX0_reason_0 18 rfl rfl)
theorem dX0_reason_19 : decode cX0_reason 19 = .ok (.ireturn, 1) := dk_172 (dk_at dksX0_reason_0 19 rfl rfl)
/-! PageGardenLaw.reason(LPageGarden;I[J)I -/
abbrev M_X0_reason (z0 n0 : Nat) (s' : gS) : gM := (RX0, cX0_reason, 4, (some FieldType.int), "reason", tableOf [(0, 9, 12, 19), (0, 9, 15, 13)], 14, z0, n0, s'.2.1, s'.2.2)
abbrev W_X0_reason (E : gE) (z0 n0 : Nat) (r : Int32) (s' : gS) (pc : Nat) (L : List (Nat × gV)) (st : List gV) (s : gS) : Prop := gW E (M_X0_reason z0 n0 s') (gQm E (M_X0_reason z0 n0 s') (.inl (some (vI r))) s') pc L st s
noncomputable def f_X0_reason_12 (κ : gK) (F : Nat)   (s : gS) : Option (Int32 × gS) :=
  some ((1 : Int32), s)
set_option maxHeartbeats 4000000 in
theorem w_X0_reason_12 {E : gE} {F z0 n0 : Nat} {r : Int32} {s' : gS}   : ∀   (q : Option Nat) (s : gS), f_X0_reason_12 (gk E) F   s = some (r, s') → W_X0_reason E z0 n0 r s' 12 [] [vR q] s := by
  intro  q s hB
  unfold f_X0_reason_12 at hB
  refine gw_astore_n (L' := [(3, vR q)]) (Nat.le_of_ble_eq_true rfl) rfl dX0_reason_12 ?_
  refine gw_iconst (v := (1 : Int32)) (by decide) dX0_reason_13 ?_
  obtain ⟨rfl, rfl⟩ := Prod.mk.inj (Option.some.inj hB)
  exact gw_iret rfl rfl rfl dX0_reason_14
noncomputable def f_X0_reason_15 (κ : gK) (F : Nat)   (s : gS) : Option (Int32 × gS) :=
  some ((2 : Int32), s)
set_option maxHeartbeats 4000000 in
theorem w_X0_reason_15 {E : gE} {F z0 n0 : Nat} {r : Int32} {s' : gS}   : ∀   (q : Option Nat) (s : gS), f_X0_reason_15 (gk E) F   s = some (r, s') → W_X0_reason E z0 n0 r s' 15 [] [vR q] s := by
  intro  q s hB
  unfold f_X0_reason_15 at hB
  refine gw_astore_n (L' := [(3, vR q)]) (Nat.le_of_ble_eq_true rfl) rfl dX0_reason_15 ?_
  refine gw_iconst (v := (2 : Int32)) (by decide) dX0_reason_16 ?_
  obtain ⟨rfl, rfl⟩ := Prod.mk.inj (Option.some.inj hB)
  exact gw_iret rfl rfl rfl dX0_reason_17
noncomputable def f_X0_reason_0 (κ : gK) (F : Nat)  (l0 : Option Nat) (l1 : Int32) (l2 : Option Nat) (s : gS) : Option (Int32 × gS) :=
  gB1 (gck s l0 0) fun _ =>
  gBy (f_X1_reason κ F l0 l1 s) (fun Cv2 s1 =>
    if Cv2 = "java/lang/IllegalArgumentException" then f_X0_reason_12 κ F  s1 else
    if Cv2 = "java/lang/IllegalStateException" then f_X0_reason_15 κ F  s1 else
    none) <| fun v2 s1 =>
  gB1 (gsJ κ s1 l2 (0 : Int32) (v2.toInt64)) fun s4 =>
  some ((0 : Int32), s4)
set_option maxHeartbeats 4000000 in
theorem w_X0_reason_0 {E : gE} {F z0 n0 : Nat} {r : Int32} {s' : gS}   : ∀ (l0 : Option Nat) (l1 : Int32) (l2 : Option Nat)  (s : gS), f_X0_reason_0 (gk E) F  l0 l1 l2 s = some (r, s') → W_X0_reason E z0 n0 r s' 0 [(0, vR l0), (1, vI l1), (2, vR l2)] [] s := by
  intro l0 l1 l2 s hB
  unfold f_X0_reason_0 at hB
  refine gw_aload_n 2 rfl dX0_reason_0 ?_
  refine gw_iconst (v := (0 : Int32)) (by decide) dX0_reason_1 ?_
  refine gw_aload_n 0 rfl dX0_reason_2 ?_
  refine gw_iload_n 1 rfl dX0_reason_3 ?_
  obtain ⟨u0, hu3, hB⟩ := gB1_some hB
  rcases gBy_some hB with ⟨v2, s1, hv2, hB⟩ | ⟨Cv2, s1, hv2, hB⟩
  rotate_left
  · by_cases hc0 : Cv2 = "java/lang/IllegalArgumentException"
    · rw [if_pos hc0] at hB
      subst hc0
      exact gw_callV (y := yX1_reason) (lw_V q2631 q2632 q2633 q108 q2634) hdV_X1_reason gcl0 hu3 (As := [vI l1]) (rest := [vI (0 : Int32), vR l2]) (m_X1_reason _ _ _ _ _ hv2) (Nat.le_of_ble_eq_true rfl) (Nat.le_of_ble_eq_true rfl) rfl (Nat.le_of_ble_eq_true rfl) dX0_reason_4 (gCont_x (gx_catch (own := "PageGardenLaw") rfl [] ⟨0, 9, 12, 19⟩ [⟨0, 9, 15, 13⟩] rfl (fun z hz => by cases hz) rfl (by decide) q2505 q430 (tgt := 12) rfl (fun q => gw_sub [] rfl (w_X0_reason_12  q _ hB))))
    · rw [if_neg hc0] at hB
      by_cases hc1 : Cv2 = "java/lang/IllegalStateException"
      · rw [if_pos hc1] at hB
        subst hc1
        exact gw_callV (y := yX1_reason) (lw_V q2631 q2632 q2633 q108 q2634) hdV_X1_reason gcl0 hu3 (As := [vI l1]) (rest := [vI (0 : Int32), vR l2]) (m_X1_reason _ _ _ _ _ hv2) (Nat.le_of_ble_eq_true rfl) (Nat.le_of_ble_eq_true rfl) rfl (Nat.le_of_ble_eq_true rfl) dX0_reason_4 (gCont_x (gx_catch (own := "PageGardenLaw") rfl [⟨0, 9, 12, 19⟩] ⟨0, 9, 15, 13⟩ [] rfl (fun z hz => by
          rcases List.mem_cons.mp hz with rfl | hz
          · exact Or.inr ⟨by decide, "java/lang/IllegalArgumentException", q2505, by decide⟩
          cases hz) rfl (by decide) q2497 q2020 (tgt := 15) rfl (fun q => gw_sub [] rfl (w_X0_reason_15  q _ hB))))
      · rw [if_neg hc1] at hB
        cases hB
  refine gw_callV (y := yX1_reason) (lw_V q2631 q2632 q2633 q108 q2634) hdV_X1_reason gcl0 hu3 (As := [vI l1]) (rest := [vI (0 : Int32), vR l2]) (m_X1_reason _ _ _ _ _ hv2) (Nat.le_of_ble_eq_true rfl) (Nat.le_of_ble_eq_true rfl) rfl (Nat.le_of_ble_eq_true rfl) dX0_reason_4 (gCont_i ?_)
  refine gw_i2l dX0_reason_7 ?_
  obtain ⟨s4, hs4, hB⟩ := gB1_some hB
  refine gw_lastore hs4 dX0_reason_8 ?_
  refine gw_goto (tgt := 18) dX0_reason_9 (by decide) ?_
  refine gw_iconst (v := (0 : Int32)) (by decide) dX0_reason_18 ?_
  obtain ⟨rfl, rfl⟩ := Prod.mk.inj (Option.some.inj hB)
  exact gw_iret rfl rfl rfl dX0_reason_19
noncomputable def f_X0_reason (κ : gK) (F : Nat) (a1 : Option Nat) (a2 : Int32) (a3 : Option Nat) (s : gS) : Option (Int32 × gS) := f_X0_reason_0 κ F a1 a2 a3 s
theorem m_X0_reason {E : gE} {F : Nat} (a1 : Option Nat) (a2 : Int32) (a3 : Option Nat) (s : gS) (r : Int32) (s' : gS) (h : f_X0_reason (gk E) F a1 a2 a3 s = some (r, s')) : gCT E 14 yX0_reason (wsW_ yX0_reason cX0_reason 4 (some FieldType.int) [(0, 9, 12, 19), (0, 9, 15, 13)]) [vR a1, vI a2, vR a3] s (.inl (some (vI r))) s' := by
  refine gCT_ofH (fun h => absurd h (by decide)) (by decide) (Nat.le_of_ble_eq_true rfl) ?_
  exact gw_sub [0, 1, 2] rfl (w_X0_reason_0 _ _ _ _ h)
def dkwX0_remove_0 : List UInt8 := [44, 3, 42, 27, 182, 0, 21, 133, 80, 167, 0, 9, 78, 4, 172, 78, 5, 172, 3, 172]
abbrev dktX0_remove_0 : List UInt8 := dkwX0_remove_0 ++ []
theorem dksX0_remove_0 : cX0_remove.data.toList.drop 0 = dktX0_remove_0 := by decide +kernel
theorem dX0_remove_0 : decode cX0_remove 0 = .ok (.aload_n 2, 1) := dk_44 (dk_at dksX0_remove_0 0 rfl rfl)
theorem dX0_remove_1 : decode cX0_remove 1 = .ok (.iconst 0, 1) := dk_3 (dk_at dksX0_remove_0 1 rfl rfl)
theorem dX0_remove_2 : decode cX0_remove 2 = .ok (.aload_n 0, 1) := dk_42 (dk_at dksX0_remove_0 2 rfl rfl)
theorem dX0_remove_3 : decode cX0_remove 3 = .ok (.iload_n 1, 1) := dk_27 (dk_at dksX0_remove_0 3 rfl rfl)
theorem dX0_remove_4 : decode cX0_remove 4 = .ok (.invokevirtual 21, 3) := dk_182 0 21 (dk_at dksX0_remove_0 4 rfl rfl)
theorem dX0_remove_7 : decode cX0_remove 7 = .ok (.i2l, 1) := dk_133 (dk_at dksX0_remove_0 7 rfl rfl)
theorem dX0_remove_8 : decode cX0_remove 8 = .ok (.lastore, 1) := dk_80 (dk_at dksX0_remove_0 8 rfl rfl)
theorem dX0_remove_9 : decode cX0_remove 9 = .ok (.goto 9, 3) := dk_167 0 9 (dk_at dksX0_remove_0 9 rfl rfl)
theorem dX0_remove_12 : decode cX0_remove 12 = .ok (.astore_n 3, 1) := dk_78 (dk_at dksX0_remove_0 12 rfl rfl)
theorem dX0_remove_13 : decode cX0_remove 13 = .ok (.iconst 1, 1) := dk_4 (dk_at dksX0_remove_0 13 rfl rfl)
theorem dX0_remove_14 : decode cX0_remove 14 = .ok (.ireturn, 1) := dk_172 (dk_at dksX0_remove_0 14 rfl rfl)
theorem dX0_remove_15 : decode cX0_remove 15 = .ok (.astore_n 3, 1) := dk_78 (dk_at dksX0_remove_0 15 rfl rfl)
theorem dX0_remove_16 : decode cX0_remove 16 = .ok (.iconst 2, 1) := dk_5 (dk_at dksX0_remove_0 16 rfl rfl)
theorem dX0_remove_17 : decode cX0_remove 17 = .ok (.ireturn, 1) := dk_172 (dk_at dksX0_remove_0 17 rfl rfl)
theorem dX0_remove_18 : decode cX0_remove 18 = .ok (.iconst 0, 1) := dk_3 (dk_at dksX0_remove_0 18 rfl rfl)
theorem dX0_remove_19 : decode cX0_remove 19 = .ok (.ireturn, 1) := dk_172 (dk_at dksX0_remove_0 19 rfl rfl)
/-! PageGardenLaw.remove(LPageGarden;I[J)I -/
abbrev M_X0_remove (z0 n0 : Nat) (s' : gS) : gM := (RX0, cX0_remove, 4, (some FieldType.int), "remove", tableOf [(0, 9, 12, 19), (0, 9, 15, 13)], 14, z0, n0, s'.2.1, s'.2.2)
abbrev W_X0_remove (E : gE) (z0 n0 : Nat) (r : Int32) (s' : gS) (pc : Nat) (L : List (Nat × gV)) (st : List gV) (s : gS) : Prop := gW E (M_X0_remove z0 n0 s') (gQm E (M_X0_remove z0 n0 s') (.inl (some (vI r))) s') pc L st s
noncomputable def f_X0_remove_12 (κ : gK) (F : Nat)   (s : gS) : Option (Int32 × gS) :=
  some ((1 : Int32), s)
set_option maxHeartbeats 4000000 in
theorem w_X0_remove_12 {E : gE} {F z0 n0 : Nat} {r : Int32} {s' : gS}   : ∀   (q : Option Nat) (s : gS), f_X0_remove_12 (gk E) F   s = some (r, s') → W_X0_remove E z0 n0 r s' 12 [] [vR q] s := by
  intro  q s hB
  unfold f_X0_remove_12 at hB
  refine gw_astore_n (L' := [(3, vR q)]) (Nat.le_of_ble_eq_true rfl) rfl dX0_remove_12 ?_
  refine gw_iconst (v := (1 : Int32)) (by decide) dX0_remove_13 ?_
  obtain ⟨rfl, rfl⟩ := Prod.mk.inj (Option.some.inj hB)
  exact gw_iret rfl rfl rfl dX0_remove_14
noncomputable def f_X0_remove_15 (κ : gK) (F : Nat)   (s : gS) : Option (Int32 × gS) :=
  some ((2 : Int32), s)
set_option maxHeartbeats 4000000 in
theorem w_X0_remove_15 {E : gE} {F z0 n0 : Nat} {r : Int32} {s' : gS}   : ∀   (q : Option Nat) (s : gS), f_X0_remove_15 (gk E) F   s = some (r, s') → W_X0_remove E z0 n0 r s' 15 [] [vR q] s := by
  intro  q s hB
  unfold f_X0_remove_15 at hB
  refine gw_astore_n (L' := [(3, vR q)]) (Nat.le_of_ble_eq_true rfl) rfl dX0_remove_15 ?_
  refine gw_iconst (v := (2 : Int32)) (by decide) dX0_remove_16 ?_
  obtain ⟨rfl, rfl⟩ := Prod.mk.inj (Option.some.inj hB)
  exact gw_iret rfl rfl rfl dX0_remove_17
noncomputable def f_X0_remove_0 (κ : gK) (F : Nat)  (l0 : Option Nat) (l1 : Int32) (l2 : Option Nat) (s : gS) : Option (Int32 × gS) :=
  gB1 (gck s l0 0) fun _ =>
  gBy (f_X1_remove κ F l0 l1 s) (fun Cv2 s1 =>
    if Cv2 = "java/lang/IllegalArgumentException" then f_X0_remove_12 κ F  s1 else
    if Cv2 = "java/lang/IllegalStateException" then f_X0_remove_15 κ F  s1 else
    none) <| fun v2 s1 =>
  gB1 (gsJ κ s1 l2 (0 : Int32) (v2.toInt64)) fun s4 =>
  some ((0 : Int32), s4)
set_option maxHeartbeats 4000000 in
theorem w_X0_remove_0 {E : gE} {F z0 n0 : Nat} {r : Int32} {s' : gS}   : ∀ (l0 : Option Nat) (l1 : Int32) (l2 : Option Nat)  (s : gS), f_X0_remove_0 (gk E) F  l0 l1 l2 s = some (r, s') → W_X0_remove E z0 n0 r s' 0 [(0, vR l0), (1, vI l1), (2, vR l2)] [] s := by
  intro l0 l1 l2 s hB
  unfold f_X0_remove_0 at hB
  refine gw_aload_n 2 rfl dX0_remove_0 ?_
  refine gw_iconst (v := (0 : Int32)) (by decide) dX0_remove_1 ?_
  refine gw_aload_n 0 rfl dX0_remove_2 ?_
  refine gw_iload_n 1 rfl dX0_remove_3 ?_
  obtain ⟨u0, hu3, hB⟩ := gB1_some hB
  rcases gBy_some hB with ⟨v2, s1, hv2, hB⟩ | ⟨Cv2, s1, hv2, hB⟩
  rotate_left
  · by_cases hc0 : Cv2 = "java/lang/IllegalArgumentException"
    · rw [if_pos hc0] at hB
      subst hc0
      exact gw_callV (y := yX1_remove) (lw_V q2513 q2514 q2515 q108 q2516) hdV_X1_remove gcl0 hu3 (As := [vI l1]) (rest := [vI (0 : Int32), vR l2]) (m_X1_remove _ _ _ _ _ hv2) (Nat.le_of_ble_eq_true rfl) (Nat.le_of_ble_eq_true rfl) rfl (Nat.le_of_ble_eq_true rfl) dX0_remove_4 (gCont_x (gx_catch (own := "PageGardenLaw") rfl [] ⟨0, 9, 12, 19⟩ [⟨0, 9, 15, 13⟩] rfl (fun z hz => by cases hz) rfl (by decide) q2505 q430 (tgt := 12) rfl (fun q => gw_sub [] rfl (w_X0_remove_12  q _ hB))))
    · rw [if_neg hc0] at hB
      by_cases hc1 : Cv2 = "java/lang/IllegalStateException"
      · rw [if_pos hc1] at hB
        subst hc1
        exact gw_callV (y := yX1_remove) (lw_V q2513 q2514 q2515 q108 q2516) hdV_X1_remove gcl0 hu3 (As := [vI l1]) (rest := [vI (0 : Int32), vR l2]) (m_X1_remove _ _ _ _ _ hv2) (Nat.le_of_ble_eq_true rfl) (Nat.le_of_ble_eq_true rfl) rfl (Nat.le_of_ble_eq_true rfl) dX0_remove_4 (gCont_x (gx_catch (own := "PageGardenLaw") rfl [⟨0, 9, 12, 19⟩] ⟨0, 9, 15, 13⟩ [] rfl (fun z hz => by
          rcases List.mem_cons.mp hz with rfl | hz
          · exact Or.inr ⟨by decide, "java/lang/IllegalArgumentException", q2505, by decide⟩
          cases hz) rfl (by decide) q2497 q2020 (tgt := 15) rfl (fun q => gw_sub [] rfl (w_X0_remove_15  q _ hB))))
      · rw [if_neg hc1] at hB
        cases hB
  refine gw_callV (y := yX1_remove) (lw_V q2513 q2514 q2515 q108 q2516) hdV_X1_remove gcl0 hu3 (As := [vI l1]) (rest := [vI (0 : Int32), vR l2]) (m_X1_remove _ _ _ _ _ hv2) (Nat.le_of_ble_eq_true rfl) (Nat.le_of_ble_eq_true rfl) rfl (Nat.le_of_ble_eq_true rfl) dX0_remove_4 (gCont_i ?_)
  refine gw_i2l dX0_remove_7 ?_
  obtain ⟨s4, hs4, hB⟩ := gB1_some hB
  refine gw_lastore hs4 dX0_remove_8 ?_
  refine gw_goto (tgt := 18) dX0_remove_9 (by decide) ?_
  refine gw_iconst (v := (0 : Int32)) (by decide) dX0_remove_18 ?_
  obtain ⟨rfl, rfl⟩ := Prod.mk.inj (Option.some.inj hB)
  exact gw_iret rfl rfl rfl dX0_remove_19
noncomputable def f_X0_remove (κ : gK) (F : Nat) (a1 : Option Nat) (a2 : Int32) (a3 : Option Nat) (s : gS) : Option (Int32 × gS) := f_X0_remove_0 κ F a1 a2 a3 s
theorem m_X0_remove {E : gE} {F : Nat} (a1 : Option Nat) (a2 : Int32) (a3 : Option Nat) (s : gS) (r : Int32) (s' : gS) (h : f_X0_remove (gk E) F a1 a2 a3 s = some (r, s')) : gCT E 14 yX0_remove (wsW_ yX0_remove cX0_remove 4 (some FieldType.int) [(0, 9, 12, 19), (0, 9, 15, 13)]) [vR a1, vI a2, vR a3] s (.inl (some (vI r))) s' := by
  refine gCT_ofH (fun h => absurd h (by decide)) (by decide) (Nat.le_of_ble_eq_true rfl) ?_
  exact gw_sub [0, 1, 2] rfl (w_X0_remove_0 _ _ _ _ h)
def dkwX0_root_0 : List UInt8 := [45, 3, 42, 27, 28, 182, 0, 51, 133, 80, 167, 0, 11, 58, 4, 4, 172, 58, 4, 5, 172, 3, 172]
abbrev dktX0_root_0 : List UInt8 := dkwX0_root_0 ++ []
theorem dksX0_root_0 : cX0_root.data.toList.drop 0 = dktX0_root_0 := by decide +kernel
theorem dX0_root_0 : decode cX0_root 0 = .ok (.aload_n 3, 1) := dk_45 (dk_at dksX0_root_0 0 rfl rfl)
theorem dX0_root_1 : decode cX0_root 1 = .ok (.iconst 0, 1) := dk_3 (dk_at dksX0_root_0 1 rfl rfl)
theorem dX0_root_2 : decode cX0_root 2 = .ok (.aload_n 0, 1) := dk_42 (dk_at dksX0_root_0 2 rfl rfl)
theorem dX0_root_3 : decode cX0_root 3 = .ok (.iload_n 1, 1) := dk_27 (dk_at dksX0_root_0 3 rfl rfl)
theorem dX0_root_4 : decode cX0_root 4 = .ok (.iload_n 2, 1) := dk_28 (dk_at dksX0_root_0 4 rfl rfl)
theorem dX0_root_5 : decode cX0_root 5 = .ok (.invokevirtual 51, 3) := dk_182 0 51 (dk_at dksX0_root_0 5 rfl rfl)
theorem dX0_root_8 : decode cX0_root 8 = .ok (.i2l, 1) := dk_133 (dk_at dksX0_root_0 8 rfl rfl)
theorem dX0_root_9 : decode cX0_root 9 = .ok (.lastore, 1) := dk_80 (dk_at dksX0_root_0 9 rfl rfl)
theorem dX0_root_10 : decode cX0_root 10 = .ok (.goto 11, 3) := dk_167 0 11 (dk_at dksX0_root_0 10 rfl rfl)
theorem dX0_root_13 : decode cX0_root 13 = .ok (.astore 4, 2) := dk_58 4 (dk_at dksX0_root_0 13 rfl rfl)
theorem dX0_root_15 : decode cX0_root 15 = .ok (.iconst 1, 1) := dk_4 (dk_at dksX0_root_0 15 rfl rfl)
theorem dX0_root_16 : decode cX0_root 16 = .ok (.ireturn, 1) := dk_172 (dk_at dksX0_root_0 16 rfl rfl)
theorem dX0_root_17 : decode cX0_root 17 = .ok (.astore 4, 2) := dk_58 4 (dk_at dksX0_root_0 17 rfl rfl)
theorem dX0_root_19 : decode cX0_root 19 = .ok (.iconst 2, 1) := dk_5 (dk_at dksX0_root_0 19 rfl rfl)
theorem dX0_root_20 : decode cX0_root 20 = .ok (.ireturn, 1) := dk_172 (dk_at dksX0_root_0 20 rfl rfl)
theorem dX0_root_21 : decode cX0_root 21 = .ok (.iconst 0, 1) := dk_3 (dk_at dksX0_root_0 21 rfl rfl)
theorem dX0_root_22 : decode cX0_root 22 = .ok (.ireturn, 1) := dk_172 (dk_at dksX0_root_0 22 rfl rfl)
/-! PageGardenLaw.root(LPageGarden;II[J)I -/
abbrev M_X0_root (z0 n0 : Nat) (s' : gS) : gM := (RX0, cX0_root, 5, (some FieldType.int), "root", tableOf [(0, 10, 13, 37), (0, 10, 17, 19)], 12, z0, n0, s'.2.1, s'.2.2)
abbrev W_X0_root (E : gE) (z0 n0 : Nat) (r : Int32) (s' : gS) (pc : Nat) (L : List (Nat × gV)) (st : List gV) (s : gS) : Prop := gW E (M_X0_root z0 n0 s') (gQm E (M_X0_root z0 n0 s') (.inl (some (vI r))) s') pc L st s
noncomputable def f_X0_root_13 (κ : gK) (F : Nat)   (s : gS) : Option (Int32 × gS) :=
  some ((1 : Int32), s)
set_option maxHeartbeats 4000000 in
theorem w_X0_root_13 {E : gE} {F z0 n0 : Nat} {r : Int32} {s' : gS}   : ∀   (q : Option Nat) (s : gS), f_X0_root_13 (gk E) F   s = some (r, s') → W_X0_root E z0 n0 r s' 13 [] [vR q] s := by
  intro  q s hB
  unfold f_X0_root_13 at hB
  refine gw_astore (L' := [(4, vR q)]) (Nat.le_of_ble_eq_true rfl) rfl dX0_root_13 ?_
  refine gw_iconst (v := (1 : Int32)) (by decide) dX0_root_15 ?_
  obtain ⟨rfl, rfl⟩ := Prod.mk.inj (Option.some.inj hB)
  exact gw_iret rfl rfl rfl dX0_root_16
noncomputable def f_X0_root_17 (κ : gK) (F : Nat)   (s : gS) : Option (Int32 × gS) :=
  some ((2 : Int32), s)
set_option maxHeartbeats 4000000 in
theorem w_X0_root_17 {E : gE} {F z0 n0 : Nat} {r : Int32} {s' : gS}   : ∀   (q : Option Nat) (s : gS), f_X0_root_17 (gk E) F   s = some (r, s') → W_X0_root E z0 n0 r s' 17 [] [vR q] s := by
  intro  q s hB
  unfold f_X0_root_17 at hB
  refine gw_astore (L' := [(4, vR q)]) (Nat.le_of_ble_eq_true rfl) rfl dX0_root_17 ?_
  refine gw_iconst (v := (2 : Int32)) (by decide) dX0_root_19 ?_
  obtain ⟨rfl, rfl⟩ := Prod.mk.inj (Option.some.inj hB)
  exact gw_iret rfl rfl rfl dX0_root_20
noncomputable def f_X0_root_0 (κ : gK) (F : Nat)  (l0 : Option Nat) (l1 : Int32) (l2 : Int32) (l3 : Option Nat) (s : gS) : Option (Int32 × gS) :=
  gB1 (gck s l0 0) fun _ =>
  gBy (f_X1_root κ F l0 l1 l2 s) (fun Cv2 s1 =>
    if Cv2 = "java/lang/IndexOutOfBoundsException" then f_X0_root_13 κ F  s1 else
    if Cv2 = "java/lang/IllegalArgumentException" then f_X0_root_17 κ F  s1 else
    none) <| fun v2 s1 =>
  gB1 (gsJ κ s1 l3 (0 : Int32) (v2.toInt64)) fun s4 =>
  some ((0 : Int32), s4)
set_option maxHeartbeats 4000000 in
theorem w_X0_root_0 {E : gE} {F z0 n0 : Nat} {r : Int32} {s' : gS}   : ∀ (l0 : Option Nat) (l1 : Int32) (l2 : Int32) (l3 : Option Nat)  (s : gS), f_X0_root_0 (gk E) F  l0 l1 l2 l3 s = some (r, s') → W_X0_root E z0 n0 r s' 0 [(0, vR l0), (1, vI l1), (2, vI l2), (3, vR l3)] [] s := by
  intro l0 l1 l2 l3 s hB
  unfold f_X0_root_0 at hB
  refine gw_aload_n 3 rfl dX0_root_0 ?_
  refine gw_iconst (v := (0 : Int32)) (by decide) dX0_root_1 ?_
  refine gw_aload_n 0 rfl dX0_root_2 ?_
  refine gw_iload_n 1 rfl dX0_root_3 ?_
  refine gw_iload_n 2 rfl dX0_root_4 ?_
  obtain ⟨u0, hu3, hB⟩ := gB1_some hB
  rcases gBy_some hB with ⟨v2, s1, hv2, hB⟩ | ⟨Cv2, s1, hv2, hB⟩
  rotate_left
  · by_cases hc0 : Cv2 = "java/lang/IndexOutOfBoundsException"
    · rw [if_pos hc0] at hB
      subst hc0
      exact gw_callV (y := yX1_root) (lw_V q2593 q2594 q2595 q108 q2596) hdV_X1_root gcl0 hu3 (As := [vI l1, vI l2]) (rest := [vI (0 : Int32), vR l3]) (m_X1_root _ _ _ _ _ _ hv2) (Nat.le_of_ble_eq_true rfl) (Nat.le_of_ble_eq_true rfl) rfl (Nat.le_of_ble_eq_true rfl) dX0_root_5 (gCont_x (gx_catch (own := "PageGardenLaw") rfl [] ⟨0, 10, 13, 37⟩ [⟨0, 10, 17, 19⟩] rfl (fun z hz => by cases hz) rfl (by decide) q2541 q2286 (tgt := 13) rfl (fun q => gw_sub [] rfl (w_X0_root_13  q _ hB))))
    · rw [if_neg hc0] at hB
      by_cases hc1 : Cv2 = "java/lang/IllegalArgumentException"
      · rw [if_pos hc1] at hB
        subst hc1
        exact gw_callV (y := yX1_root) (lw_V q2593 q2594 q2595 q108 q2596) hdV_X1_root gcl0 hu3 (As := [vI l1, vI l2]) (rest := [vI (0 : Int32), vR l3]) (m_X1_root _ _ _ _ _ _ hv2) (Nat.le_of_ble_eq_true rfl) (Nat.le_of_ble_eq_true rfl) rfl (Nat.le_of_ble_eq_true rfl) dX0_root_5 (gCont_x (gx_catch (own := "PageGardenLaw") rfl [⟨0, 10, 13, 37⟩] ⟨0, 10, 17, 19⟩ [] rfl (fun z hz => by
          rcases List.mem_cons.mp hz with rfl | hz
          · exact Or.inr ⟨by decide, "java/lang/IndexOutOfBoundsException", q2541, by decide⟩
          cases hz) rfl (by decide) q2505 q430 (tgt := 17) rfl (fun q => gw_sub [] rfl (w_X0_root_17  q _ hB))))
      · rw [if_neg hc1] at hB
        cases hB
  refine gw_callV (y := yX1_root) (lw_V q2593 q2594 q2595 q108 q2596) hdV_X1_root gcl0 hu3 (As := [vI l1, vI l2]) (rest := [vI (0 : Int32), vR l3]) (m_X1_root _ _ _ _ _ _ hv2) (Nat.le_of_ble_eq_true rfl) (Nat.le_of_ble_eq_true rfl) rfl (Nat.le_of_ble_eq_true rfl) dX0_root_5 (gCont_i ?_)
  refine gw_i2l dX0_root_8 ?_
  obtain ⟨s4, hs4, hB⟩ := gB1_some hB
  refine gw_lastore hs4 dX0_root_9 ?_
  refine gw_goto (tgt := 21) dX0_root_10 (by decide) ?_
  refine gw_iconst (v := (0 : Int32)) (by decide) dX0_root_21 ?_
  obtain ⟨rfl, rfl⟩ := Prod.mk.inj (Option.some.inj hB)
  exact gw_iret rfl rfl rfl dX0_root_22
noncomputable def f_X0_root (κ : gK) (F : Nat) (a1 : Option Nat) (a2 : Int32) (a3 : Int32) (a4 : Option Nat) (s : gS) : Option (Int32 × gS) := f_X0_root_0 κ F a1 a2 a3 a4 s
theorem m_X0_root {E : gE} {F : Nat} (a1 : Option Nat) (a2 : Int32) (a3 : Int32) (a4 : Option Nat) (s : gS) (r : Int32) (s' : gS) (h : f_X0_root (gk E) F a1 a2 a3 a4 s = some (r, s')) : gCT E 12 yX0_root (wsW_ yX0_root cX0_root 5 (some FieldType.int) [(0, 10, 13, 37), (0, 10, 17, 19)]) [vR a1, vI a2, vI a3, vR a4] s (.inl (some (vI r))) s' := by
  refine gCT_ofH (fun h => absurd h (by decide)) (by decide) (Nat.le_of_ble_eq_true rfl) ?_
  exact gw_sub [0, 1, 2, 3] rfl (w_X0_root_0 _ _ _ _ _ h)
def dkwX0_type_0 : List UInt8 := [44, 3, 42, 27, 182, 0, 75, 133, 80, 167, 0, 9, 78, 4, 172, 78, 5, 172, 3, 172]
abbrev dktX0_type_0 : List UInt8 := dkwX0_type_0 ++ []
theorem dksX0_type_0 : cX0_type.data.toList.drop 0 = dktX0_type_0 := by decide +kernel
theorem dX0_type_0 : decode cX0_type 0 = .ok (.aload_n 2, 1) := dk_44 (dk_at dksX0_type_0 0 rfl rfl)
theorem dX0_type_1 : decode cX0_type 1 = .ok (.iconst 0, 1) := dk_3 (dk_at dksX0_type_0 1 rfl rfl)
theorem dX0_type_2 : decode cX0_type 2 = .ok (.aload_n 0, 1) := dk_42 (dk_at dksX0_type_0 2 rfl rfl)
theorem dX0_type_3 : decode cX0_type 3 = .ok (.iload_n 1, 1) := dk_27 (dk_at dksX0_type_0 3 rfl rfl)
theorem dX0_type_4 : decode cX0_type 4 = .ok (.invokevirtual 75, 3) := dk_182 0 75 (dk_at dksX0_type_0 4 rfl rfl)
theorem dX0_type_7 : decode cX0_type 7 = .ok (.i2l, 1) := dk_133 (dk_at dksX0_type_0 7 rfl rfl)
theorem dX0_type_8 : decode cX0_type 8 = .ok (.lastore, 1) := dk_80 (dk_at dksX0_type_0 8 rfl rfl)
theorem dX0_type_9 : decode cX0_type 9 = .ok (.goto 9, 3) := dk_167 0 9 (dk_at dksX0_type_0 9 rfl rfl)
theorem dX0_type_12 : decode cX0_type 12 = .ok (.astore_n 3, 1) := dk_78 (dk_at dksX0_type_0 12 rfl rfl)
theorem dX0_type_13 : decode cX0_type 13 = .ok (.iconst 1, 1) := dk_4 (dk_at dksX0_type_0 13 rfl rfl)
theorem dX0_type_14 : decode cX0_type 14 = .ok (.ireturn, 1) := dk_172 (dk_at dksX0_type_0 14 rfl rfl)
theorem dX0_type_15 : decode cX0_type 15 = .ok (.astore_n 3, 1) := dk_78 (dk_at dksX0_type_0 15 rfl rfl)
theorem dX0_type_16 : decode cX0_type 16 = .ok (.iconst 2, 1) := dk_5 (dk_at dksX0_type_0 16 rfl rfl)
theorem dX0_type_17 : decode cX0_type 17 = .ok (.ireturn, 1) := dk_172 (dk_at dksX0_type_0 17 rfl rfl)
theorem dX0_type_18 : decode cX0_type 18 = .ok (.iconst 0, 1) := dk_3 (dk_at dksX0_type_0 18 rfl rfl)
theorem dX0_type_19 : decode cX0_type 19 = .ok (.ireturn, 1) := dk_172 (dk_at dksX0_type_0 19 rfl rfl)
/-! PageGardenLaw.type(LPageGarden;I[J)I -/
abbrev M_X0_type (z0 n0 : Nat) (s' : gS) : gM := (RX0, cX0_type, 4, (some FieldType.int), "type", tableOf [(0, 9, 12, 19), (0, 9, 15, 13)], 11, z0, n0, s'.2.1, s'.2.2)
abbrev W_X0_type (E : gE) (z0 n0 : Nat) (r : Int32) (s' : gS) (pc : Nat) (L : List (Nat × gV)) (st : List gV) (s : gS) : Prop := gW E (M_X0_type z0 n0 s') (gQm E (M_X0_type z0 n0 s') (.inl (some (vI r))) s') pc L st s
noncomputable def f_X0_type_12 (κ : gK) (F : Nat)   (s : gS) : Option (Int32 × gS) :=
  some ((1 : Int32), s)
set_option maxHeartbeats 4000000 in
theorem w_X0_type_12 {E : gE} {F z0 n0 : Nat} {r : Int32} {s' : gS}   : ∀   (q : Option Nat) (s : gS), f_X0_type_12 (gk E) F   s = some (r, s') → W_X0_type E z0 n0 r s' 12 [] [vR q] s := by
  intro  q s hB
  unfold f_X0_type_12 at hB
  refine gw_astore_n (L' := [(3, vR q)]) (Nat.le_of_ble_eq_true rfl) rfl dX0_type_12 ?_
  refine gw_iconst (v := (1 : Int32)) (by decide) dX0_type_13 ?_
  obtain ⟨rfl, rfl⟩ := Prod.mk.inj (Option.some.inj hB)
  exact gw_iret rfl rfl rfl dX0_type_14
noncomputable def f_X0_type_15 (κ : gK) (F : Nat)   (s : gS) : Option (Int32 × gS) :=
  some ((2 : Int32), s)
set_option maxHeartbeats 4000000 in
theorem w_X0_type_15 {E : gE} {F z0 n0 : Nat} {r : Int32} {s' : gS}   : ∀   (q : Option Nat) (s : gS), f_X0_type_15 (gk E) F   s = some (r, s') → W_X0_type E z0 n0 r s' 15 [] [vR q] s := by
  intro  q s hB
  unfold f_X0_type_15 at hB
  refine gw_astore_n (L' := [(3, vR q)]) (Nat.le_of_ble_eq_true rfl) rfl dX0_type_15 ?_
  refine gw_iconst (v := (2 : Int32)) (by decide) dX0_type_16 ?_
  obtain ⟨rfl, rfl⟩ := Prod.mk.inj (Option.some.inj hB)
  exact gw_iret rfl rfl rfl dX0_type_17
noncomputable def f_X0_type_0 (κ : gK) (F : Nat)  (l0 : Option Nat) (l1 : Int32) (l2 : Option Nat) (s : gS) : Option (Int32 × gS) :=
  gB1 (gck s l0 0) fun _ =>
  gBy (f_X1_type κ F l0 l1 s) (fun Cv2 s1 =>
    if Cv2 = "java/lang/IllegalArgumentException" then f_X0_type_12 κ F  s1 else
    if Cv2 = "java/lang/IllegalStateException" then f_X0_type_15 κ F  s1 else
    none) <| fun v2 s1 =>
  gB1 (gsJ κ s1 l2 (0 : Int32) (v2.toInt64)) fun s4 =>
  some ((0 : Int32), s4)
set_option maxHeartbeats 4000000 in
theorem w_X0_type_0 {E : gE} {F z0 n0 : Nat} {r : Int32} {s' : gS}   : ∀ (l0 : Option Nat) (l1 : Int32) (l2 : Option Nat)  (s : gS), f_X0_type_0 (gk E) F  l0 l1 l2 s = some (r, s') → W_X0_type E z0 n0 r s' 0 [(0, vR l0), (1, vI l1), (2, vR l2)] [] s := by
  intro l0 l1 l2 s hB
  unfold f_X0_type_0 at hB
  refine gw_aload_n 2 rfl dX0_type_0 ?_
  refine gw_iconst (v := (0 : Int32)) (by decide) dX0_type_1 ?_
  refine gw_aload_n 0 rfl dX0_type_2 ?_
  refine gw_iload_n 1 rfl dX0_type_3 ?_
  obtain ⟨u0, hu3, hB⟩ := gB1_some hB
  rcases gBy_some hB with ⟨v2, s1, hv2, hB⟩ | ⟨Cv2, s1, hv2, hB⟩
  rotate_left
  · by_cases hc0 : Cv2 = "java/lang/IllegalArgumentException"
    · rw [if_pos hc0] at hB
      subst hc0
      exact gw_callV (y := yX1_type) (lw_V q2672 q2673 q2674 q108 q2675) hdV_X1_type gcl0 hu3 (As := [vI l1]) (rest := [vI (0 : Int32), vR l2]) (m_X1_type _ _ _ _ _ hv2) (Nat.le_of_ble_eq_true rfl) (Nat.le_of_ble_eq_true rfl) rfl (Nat.le_of_ble_eq_true rfl) dX0_type_4 (gCont_x (gx_catch (own := "PageGardenLaw") rfl [] ⟨0, 9, 12, 19⟩ [⟨0, 9, 15, 13⟩] rfl (fun z hz => by cases hz) rfl (by decide) q2505 q430 (tgt := 12) rfl (fun q => gw_sub [] rfl (w_X0_type_12  q _ hB))))
    · rw [if_neg hc0] at hB
      by_cases hc1 : Cv2 = "java/lang/IllegalStateException"
      · rw [if_pos hc1] at hB
        subst hc1
        exact gw_callV (y := yX1_type) (lw_V q2672 q2673 q2674 q108 q2675) hdV_X1_type gcl0 hu3 (As := [vI l1]) (rest := [vI (0 : Int32), vR l2]) (m_X1_type _ _ _ _ _ hv2) (Nat.le_of_ble_eq_true rfl) (Nat.le_of_ble_eq_true rfl) rfl (Nat.le_of_ble_eq_true rfl) dX0_type_4 (gCont_x (gx_catch (own := "PageGardenLaw") rfl [⟨0, 9, 12, 19⟩] ⟨0, 9, 15, 13⟩ [] rfl (fun z hz => by
          rcases List.mem_cons.mp hz with rfl | hz
          · exact Or.inr ⟨by decide, "java/lang/IllegalArgumentException", q2505, by decide⟩
          cases hz) rfl (by decide) q2497 q2020 (tgt := 15) rfl (fun q => gw_sub [] rfl (w_X0_type_15  q _ hB))))
      · rw [if_neg hc1] at hB
        cases hB
  refine gw_callV (y := yX1_type) (lw_V q2672 q2673 q2674 q108 q2675) hdV_X1_type gcl0 hu3 (As := [vI l1]) (rest := [vI (0 : Int32), vR l2]) (m_X1_type _ _ _ _ _ hv2) (Nat.le_of_ble_eq_true rfl) (Nat.le_of_ble_eq_true rfl) rfl (Nat.le_of_ble_eq_true rfl) dX0_type_4 (gCont_i ?_)
  refine gw_i2l dX0_type_7 ?_
  obtain ⟨s4, hs4, hB⟩ := gB1_some hB
  refine gw_lastore hs4 dX0_type_8 ?_
  refine gw_goto (tgt := 18) dX0_type_9 (by decide) ?_
  refine gw_iconst (v := (0 : Int32)) (by decide) dX0_type_18 ?_
  obtain ⟨rfl, rfl⟩ := Prod.mk.inj (Option.some.inj hB)
  exact gw_iret rfl rfl rfl dX0_type_19
noncomputable def f_X0_type (κ : gK) (F : Nat) (a1 : Option Nat) (a2 : Int32) (a3 : Option Nat) (s : gS) : Option (Int32 × gS) := f_X0_type_0 κ F a1 a2 a3 s
theorem m_X0_type {E : gE} {F : Nat} (a1 : Option Nat) (a2 : Int32) (a3 : Option Nat) (s : gS) (r : Int32) (s' : gS) (h : f_X0_type (gk E) F a1 a2 a3 s = some (r, s')) : gCT E 11 yX0_type (wsW_ yX0_type cX0_type 4 (some FieldType.int) [(0, 9, 12, 19), (0, 9, 15, 13)]) [vR a1, vI a2, vR a3] s (.inl (some (vI r))) s' := by
  refine gCT_ofH (fun h => absurd h (by decide)) (by decide) (Nat.le_of_ble_eq_true rfl) ?_
  exact gw_sub [0, 1, 2] rfl (w_X0_type_0 _ _ _ _ h)
def dkwX0_undo_0 : List UInt8 := [43, 3, 42, 182, 0, 78, 133, 80, 167, 0, 6, 77, 4, 172, 3, 172]
abbrev dktX0_undo_0 : List UInt8 := dkwX0_undo_0 ++ []
theorem dksX0_undo_0 : cX0_undo.data.toList.drop 0 = dktX0_undo_0 := by decide +kernel
theorem dX0_undo_0 : decode cX0_undo 0 = .ok (.aload_n 1, 1) := dk_43 (dk_at dksX0_undo_0 0 rfl rfl)
theorem dX0_undo_1 : decode cX0_undo 1 = .ok (.iconst 0, 1) := dk_3 (dk_at dksX0_undo_0 1 rfl rfl)
theorem dX0_undo_2 : decode cX0_undo 2 = .ok (.aload_n 0, 1) := dk_42 (dk_at dksX0_undo_0 2 rfl rfl)
theorem dX0_undo_3 : decode cX0_undo 3 = .ok (.invokevirtual 78, 3) := dk_182 0 78 (dk_at dksX0_undo_0 3 rfl rfl)
theorem dX0_undo_6 : decode cX0_undo 6 = .ok (.i2l, 1) := dk_133 (dk_at dksX0_undo_0 6 rfl rfl)
theorem dX0_undo_7 : decode cX0_undo 7 = .ok (.lastore, 1) := dk_80 (dk_at dksX0_undo_0 7 rfl rfl)
theorem dX0_undo_8 : decode cX0_undo 8 = .ok (.goto 6, 3) := dk_167 0 6 (dk_at dksX0_undo_0 8 rfl rfl)
theorem dX0_undo_11 : decode cX0_undo 11 = .ok (.astore_n 2, 1) := dk_77 (dk_at dksX0_undo_0 11 rfl rfl)
theorem dX0_undo_12 : decode cX0_undo 12 = .ok (.iconst 1, 1) := dk_4 (dk_at dksX0_undo_0 12 rfl rfl)
theorem dX0_undo_13 : decode cX0_undo 13 = .ok (.ireturn, 1) := dk_172 (dk_at dksX0_undo_0 13 rfl rfl)
theorem dX0_undo_14 : decode cX0_undo 14 = .ok (.iconst 0, 1) := dk_3 (dk_at dksX0_undo_0 14 rfl rfl)
theorem dX0_undo_15 : decode cX0_undo 15 = .ok (.ireturn, 1) := dk_172 (dk_at dksX0_undo_0 15 rfl rfl)
/-! PageGardenLaw.undo(LPageGarden;[J)I -/
abbrev M_X0_undo (z0 n0 : Nat) (s' : gS) : gM := (RX0, cX0_undo, 3, (some FieldType.int), "undo", tableOf [(0, 8, 11, 13)], 11, z0, n0, s'.2.1, s'.2.2)
abbrev W_X0_undo (E : gE) (z0 n0 : Nat) (r : Int32) (s' : gS) (pc : Nat) (L : List (Nat × gV)) (st : List gV) (s : gS) : Prop := gW E (M_X0_undo z0 n0 s') (gQm E (M_X0_undo z0 n0 s') (.inl (some (vI r))) s') pc L st s
noncomputable def f_X0_undo_11 (κ : gK) (F : Nat)   (s : gS) : Option (Int32 × gS) :=
  some ((1 : Int32), s)
set_option maxHeartbeats 4000000 in
theorem w_X0_undo_11 {E : gE} {F z0 n0 : Nat} {r : Int32} {s' : gS}   : ∀   (q : Option Nat) (s : gS), f_X0_undo_11 (gk E) F   s = some (r, s') → W_X0_undo E z0 n0 r s' 11 [] [vR q] s := by
  intro  q s hB
  unfold f_X0_undo_11 at hB
  refine gw_astore_n (L' := [(2, vR q)]) (Nat.le_of_ble_eq_true rfl) rfl dX0_undo_11 ?_
  refine gw_iconst (v := (1 : Int32)) (by decide) dX0_undo_12 ?_
  obtain ⟨rfl, rfl⟩ := Prod.mk.inj (Option.some.inj hB)
  exact gw_iret rfl rfl rfl dX0_undo_13
noncomputable def f_X0_undo_0 (κ : gK) (F : Nat)  (l0 : Option Nat) (l1 : Option Nat) (s : gS) : Option (Int32 × gS) :=
  gB1 (gck s l0 0) fun _ =>
  gBy (f_X1_undo κ F l0  s) (fun Cv2 s1 =>
    if Cv2 = "java/lang/IllegalStateException" then f_X0_undo_11 κ F  s1 else
    none) <| fun v2 s1 =>
  gB1 (gsJ κ s1 l1 (0 : Int32) (v2.toInt64)) fun s4 =>
  some ((0 : Int32), s4)
set_option maxHeartbeats 4000000 in
theorem w_X0_undo_0 {E : gE} {F z0 n0 : Nat} {r : Int32} {s' : gS}   : ∀ (l0 : Option Nat) (l1 : Option Nat)  (s : gS), f_X0_undo_0 (gk E) F  l0 l1 s = some (r, s') → W_X0_undo E z0 n0 r s' 0 [(0, vR l0), (1, vR l1)] [] s := by
  intro l0 l1 s hB
  unfold f_X0_undo_0 at hB
  refine gw_aload_n 1 rfl dX0_undo_0 ?_
  refine gw_iconst (v := (0 : Int32)) (by decide) dX0_undo_1 ?_
  refine gw_aload_n 0 rfl dX0_undo_2 ?_
  obtain ⟨u0, hu3, hB⟩ := gB1_some hB
  rcases gBy_some hB with ⟨v2, s1, hv2, hB⟩ | ⟨Cv2, s1, hv2, hB⟩
  rotate_left
  · by_cases hc0 : Cv2 = "java/lang/IllegalStateException"
    · rw [if_pos hc0] at hB
      subst hc0
      exact gw_callV (y := yX1_undo) (lw_V q2683 q2684 q2685 q108 q2686) hdV_X1_undo gcl0 hu3 (As := []) (rest := [vI (0 : Int32), vR l1]) (m_X1_undo _ _ _ _ hv2) (Nat.le_of_ble_eq_true rfl) (Nat.le_of_ble_eq_true rfl) rfl (Nat.le_of_ble_eq_true rfl) dX0_undo_3 (gCont_x (gx_catch (own := "PageGardenLaw") rfl [] ⟨0, 8, 11, 13⟩ [] rfl (fun z hz => by cases hz) rfl (by decide) q2497 q2020 (tgt := 11) rfl (fun q => gw_sub [] rfl (w_X0_undo_11  q _ hB))))
    · rw [if_neg hc0] at hB
      cases hB
  refine gw_callV (y := yX1_undo) (lw_V q2683 q2684 q2685 q108 q2686) hdV_X1_undo gcl0 hu3 (As := []) (rest := [vI (0 : Int32), vR l1]) (m_X1_undo _ _ _ _ hv2) (Nat.le_of_ble_eq_true rfl) (Nat.le_of_ble_eq_true rfl) rfl (Nat.le_of_ble_eq_true rfl) dX0_undo_3 (gCont_i ?_)
  refine gw_i2l dX0_undo_6 ?_
  obtain ⟨s4, hs4, hB⟩ := gB1_some hB
  refine gw_lastore hs4 dX0_undo_7 ?_
  refine gw_goto (tgt := 14) dX0_undo_8 (by decide) ?_
  refine gw_iconst (v := (0 : Int32)) (by decide) dX0_undo_14 ?_
  obtain ⟨rfl, rfl⟩ := Prod.mk.inj (Option.some.inj hB)
  exact gw_iret rfl rfl rfl dX0_undo_15
noncomputable def f_X0_undo (κ : gK) (F : Nat) (a1 : Option Nat) (a2 : Option Nat) (s : gS) : Option (Int32 × gS) := f_X0_undo_0 κ F a1 a2 s
theorem m_X0_undo {E : gE} {F : Nat} (a1 : Option Nat) (a2 : Option Nat) (s : gS) (r : Int32) (s' : gS) (h : f_X0_undo (gk E) F a1 a2 s = some (r, s')) : gCT E 11 yX0_undo (wsW_ yX0_undo cX0_undo 3 (some FieldType.int) [(0, 8, 11, 13)]) [vR a1, vR a2] s (.inl (some (vI r))) s' := by
  refine gCT_ofH (fun h => absurd h (by decide)) (by decide) (Nat.le_of_ble_eq_true rfl) ?_
  exact gw_sub [0, 1] rfl (w_X0_undo_0 _ _ _ h)
def dkwX0_whole_0 : List UInt8 := [44, 3, 42, 27, 182, 0, 60, 133, 80, 167, 0, 6, 78, 4, 172, 3, 172]
abbrev dktX0_whole_0 : List UInt8 := dkwX0_whole_0 ++ []
theorem dksX0_whole_0 : cX0_whole.data.toList.drop 0 = dktX0_whole_0 := by decide +kernel
theorem dX0_whole_0 : decode cX0_whole 0 = .ok (.aload_n 2, 1) := dk_44 (dk_at dksX0_whole_0 0 rfl rfl)
theorem dX0_whole_1 : decode cX0_whole 1 = .ok (.iconst 0, 1) := dk_3 (dk_at dksX0_whole_0 1 rfl rfl)
theorem dX0_whole_2 : decode cX0_whole 2 = .ok (.aload_n 0, 1) := dk_42 (dk_at dksX0_whole_0 2 rfl rfl)
theorem dX0_whole_3 : decode cX0_whole 3 = .ok (.iload_n 1, 1) := dk_27 (dk_at dksX0_whole_0 3 rfl rfl)
theorem dX0_whole_4 : decode cX0_whole 4 = .ok (.invokevirtual 60, 3) := dk_182 0 60 (dk_at dksX0_whole_0 4 rfl rfl)
theorem dX0_whole_7 : decode cX0_whole 7 = .ok (.i2l, 1) := dk_133 (dk_at dksX0_whole_0 7 rfl rfl)
theorem dX0_whole_8 : decode cX0_whole 8 = .ok (.lastore, 1) := dk_80 (dk_at dksX0_whole_0 8 rfl rfl)
theorem dX0_whole_9 : decode cX0_whole 9 = .ok (.goto 6, 3) := dk_167 0 6 (dk_at dksX0_whole_0 9 rfl rfl)
theorem dX0_whole_12 : decode cX0_whole 12 = .ok (.astore_n 3, 1) := dk_78 (dk_at dksX0_whole_0 12 rfl rfl)
theorem dX0_whole_13 : decode cX0_whole 13 = .ok (.iconst 1, 1) := dk_4 (dk_at dksX0_whole_0 13 rfl rfl)
theorem dX0_whole_14 : decode cX0_whole 14 = .ok (.ireturn, 1) := dk_172 (dk_at dksX0_whole_0 14 rfl rfl)
theorem dX0_whole_15 : decode cX0_whole 15 = .ok (.iconst 0, 1) := dk_3 (dk_at dksX0_whole_0 15 rfl rfl)
theorem dX0_whole_16 : decode cX0_whole 16 = .ok (.ireturn, 1) := dk_172 (dk_at dksX0_whole_0 16 rfl rfl)
/-! PageGardenLaw.whole(LPageGarden;I[J)I -/
abbrev M_X0_whole (z0 n0 : Nat) (s' : gS) : gM := (RX0, cX0_whole, 4, (some FieldType.int), "whole", tableOf [(0, 9, 12, 19)], 12, z0, n0, s'.2.1, s'.2.2)
abbrev W_X0_whole (E : gE) (z0 n0 : Nat) (r : Int32) (s' : gS) (pc : Nat) (L : List (Nat × gV)) (st : List gV) (s : gS) : Prop := gW E (M_X0_whole z0 n0 s') (gQm E (M_X0_whole z0 n0 s') (.inl (some (vI r))) s') pc L st s
noncomputable def f_X0_whole_12 (κ : gK) (F : Nat)   (s : gS) : Option (Int32 × gS) :=
  some ((1 : Int32), s)
set_option maxHeartbeats 4000000 in
theorem w_X0_whole_12 {E : gE} {F z0 n0 : Nat} {r : Int32} {s' : gS}   : ∀   (q : Option Nat) (s : gS), f_X0_whole_12 (gk E) F   s = some (r, s') → W_X0_whole E z0 n0 r s' 12 [] [vR q] s := by
  intro  q s hB
  unfold f_X0_whole_12 at hB
  refine gw_astore_n (L' := [(3, vR q)]) (Nat.le_of_ble_eq_true rfl) rfl dX0_whole_12 ?_
  refine gw_iconst (v := (1 : Int32)) (by decide) dX0_whole_13 ?_
  obtain ⟨rfl, rfl⟩ := Prod.mk.inj (Option.some.inj hB)
  exact gw_iret rfl rfl rfl dX0_whole_14
noncomputable def f_X0_whole_0 (κ : gK) (F : Nat)  (l0 : Option Nat) (l1 : Int32) (l2 : Option Nat) (s : gS) : Option (Int32 × gS) :=
  gB1 (gck s l0 0) fun _ =>
  gBy (f_X1_whole κ F l0 l1 s) (fun Cv2 s1 =>
    if Cv2 = "java/lang/IllegalArgumentException" then f_X0_whole_12 κ F  s1 else
    none) <| fun v2 s1 =>
  gB1 (gsJ κ s1 l2 (0 : Int32) (v2.toInt64)) fun s4 =>
  some ((0 : Int32), s4)
set_option maxHeartbeats 4000000 in
theorem w_X0_whole_0 {E : gE} {F z0 n0 : Nat} {r : Int32} {s' : gS}   : ∀ (l0 : Option Nat) (l1 : Int32) (l2 : Option Nat)  (s : gS), f_X0_whole_0 (gk E) F  l0 l1 l2 s = some (r, s') → W_X0_whole E z0 n0 r s' 0 [(0, vR l0), (1, vI l1), (2, vR l2)] [] s := by
  intro l0 l1 l2 s hB
  unfold f_X0_whole_0 at hB
  refine gw_aload_n 2 rfl dX0_whole_0 ?_
  refine gw_iconst (v := (0 : Int32)) (by decide) dX0_whole_1 ?_
  refine gw_aload_n 0 rfl dX0_whole_2 ?_
  refine gw_iload_n 1 rfl dX0_whole_3 ?_
  obtain ⟨u0, hu3, hB⟩ := gB1_some hB
  rcases gBy_some hB with ⟨v2, s1, hv2, hB⟩ | ⟨Cv2, s1, hv2, hB⟩
  rotate_left
  · by_cases hc0 : Cv2 = "java/lang/IllegalArgumentException"
    · rw [if_pos hc0] at hB
      subst hc0
      exact gw_callV (y := yX1_whole) (lw_V q2616 q2617 q2618 q108 q2619) hdV_X1_whole gcl0 hu3 (As := [vI l1]) (rest := [vI (0 : Int32), vR l2]) (m_X1_whole _ _ _ _ _ hv2) (Nat.le_of_ble_eq_true rfl) (Nat.le_of_ble_eq_true rfl) rfl (Nat.le_of_ble_eq_true rfl) dX0_whole_4 (gCont_x (gx_catch (own := "PageGardenLaw") rfl [] ⟨0, 9, 12, 19⟩ [] rfl (fun z hz => by cases hz) rfl (by decide) q2505 q430 (tgt := 12) rfl (fun q => gw_sub [] rfl (w_X0_whole_12  q _ hB))))
    · rw [if_neg hc0] at hB
      cases hB
  refine gw_callV (y := yX1_whole) (lw_V q2616 q2617 q2618 q108 q2619) hdV_X1_whole gcl0 hu3 (As := [vI l1]) (rest := [vI (0 : Int32), vR l2]) (m_X1_whole _ _ _ _ _ hv2) (Nat.le_of_ble_eq_true rfl) (Nat.le_of_ble_eq_true rfl) rfl (Nat.le_of_ble_eq_true rfl) dX0_whole_4 (gCont_i ?_)
  refine gw_i2l dX0_whole_7 ?_
  obtain ⟨s4, hs4, hB⟩ := gB1_some hB
  refine gw_lastore hs4 dX0_whole_8 ?_
  refine gw_goto (tgt := 15) dX0_whole_9 (by decide) ?_
  refine gw_iconst (v := (0 : Int32)) (by decide) dX0_whole_15 ?_
  obtain ⟨rfl, rfl⟩ := Prod.mk.inj (Option.some.inj hB)
  exact gw_iret rfl rfl rfl dX0_whole_16
noncomputable def f_X0_whole (κ : gK) (F : Nat) (a1 : Option Nat) (a2 : Int32) (a3 : Option Nat) (s : gS) : Option (Int32 × gS) := f_X0_whole_0 κ F a1 a2 a3 s
theorem m_X0_whole {E : gE} {F : Nat} (a1 : Option Nat) (a2 : Int32) (a3 : Option Nat) (s : gS) (r : Int32) (s' : gS) (h : f_X0_whole (gk E) F a1 a2 a3 s = some (r, s')) : gCT E 12 yX0_whole (wsW_ yX0_whole cX0_whole 4 (some FieldType.int) [(0, 9, 12, 19)]) [vR a1, vI a2, vR a3] s (.inl (some (vI r))) s' := by
  refine gCT_ofH (fun h => absurd h (by decide)) (by decide) (Nat.le_of_ble_eq_true rfl) ?_
  exact gw_sub [0, 1, 2] rfl (w_X0_whole_0 _ _ _ _ h)
def dkwJ16_checkFromToIndex_0 : List UInt8 := [26, 155, 0, 13, 26, 27, 163, 0, 8, 27, 28, 164, 0, 11, 45, 26, 27, 28, 184, 0, 99, 191, 26, 172]
abbrev dktJ16_checkFromToIndex_0 : List UInt8 := dkwJ16_checkFromToIndex_0 ++ []
theorem dksJ16_checkFromToIndex_0 : cJ16_checkFromToIndex.data.toList.drop 0 = dktJ16_checkFromToIndex_0 := by decide +kernel
theorem dJ16_checkFromToIndex_0 : decode cJ16_checkFromToIndex 0 = .ok (.iload_n 0, 1) := dk_26 (dk_at dksJ16_checkFromToIndex_0 0 rfl rfl)
theorem dJ16_checkFromToIndex_1 : decode cJ16_checkFromToIndex 1 = .ok (.ifCond .lt 13, 3) := dk_155 0 13 (dk_at dksJ16_checkFromToIndex_0 1 rfl rfl)
theorem dJ16_checkFromToIndex_4 : decode cJ16_checkFromToIndex 4 = .ok (.iload_n 0, 1) := dk_26 (dk_at dksJ16_checkFromToIndex_0 4 rfl rfl)
theorem dJ16_checkFromToIndex_5 : decode cJ16_checkFromToIndex 5 = .ok (.iload_n 1, 1) := dk_27 (dk_at dksJ16_checkFromToIndex_0 5 rfl rfl)
theorem dJ16_checkFromToIndex_6 : decode cJ16_checkFromToIndex 6 = .ok (.if_icmp .gt 8, 3) := dk_163 0 8 (dk_at dksJ16_checkFromToIndex_0 6 rfl rfl)
theorem dJ16_checkFromToIndex_9 : decode cJ16_checkFromToIndex 9 = .ok (.iload_n 1, 1) := dk_27 (dk_at dksJ16_checkFromToIndex_0 9 rfl rfl)
theorem dJ16_checkFromToIndex_10 : decode cJ16_checkFromToIndex 10 = .ok (.iload_n 2, 1) := dk_28 (dk_at dksJ16_checkFromToIndex_0 10 rfl rfl)
theorem dJ16_checkFromToIndex_11 : decode cJ16_checkFromToIndex 11 = .ok (.if_icmp .le 11, 3) := dk_164 0 11 (dk_at dksJ16_checkFromToIndex_0 11 rfl rfl)
theorem dJ16_checkFromToIndex_14 : decode cJ16_checkFromToIndex 14 = .ok (.aload_n 3, 1) := dk_45 (dk_at dksJ16_checkFromToIndex_0 14 rfl rfl)
theorem dJ16_checkFromToIndex_15 : decode cJ16_checkFromToIndex 15 = .ok (.iload_n 0, 1) := dk_26 (dk_at dksJ16_checkFromToIndex_0 15 rfl rfl)
theorem dJ16_checkFromToIndex_16 : decode cJ16_checkFromToIndex 16 = .ok (.iload_n 1, 1) := dk_27 (dk_at dksJ16_checkFromToIndex_0 16 rfl rfl)
theorem dJ16_checkFromToIndex_17 : decode cJ16_checkFromToIndex 17 = .ok (.iload_n 2, 1) := dk_28 (dk_at dksJ16_checkFromToIndex_0 17 rfl rfl)
theorem dJ16_checkFromToIndex_18 : decode cJ16_checkFromToIndex 18 = .ok (.invokestatic 99, 3) := dk_184 0 99 (dk_at dksJ16_checkFromToIndex_0 18 rfl rfl)
theorem dJ16_checkFromToIndex_21 : decode cJ16_checkFromToIndex 21 = .ok (.athrow, 1) := dk_191 (dk_at dksJ16_checkFromToIndex_0 21 rfl rfl)
theorem dJ16_checkFromToIndex_22 : decode cJ16_checkFromToIndex 22 = .ok (.iload_n 0, 1) := dk_26 (dk_at dksJ16_checkFromToIndex_0 22 rfl rfl)
theorem dJ16_checkFromToIndex_23 : decode cJ16_checkFromToIndex 23 = .ok (.ireturn, 1) := dk_172 (dk_at dksJ16_checkFromToIndex_0 23 rfl rfl)
/-! jdk/internal/util/Preconditions.checkFromToIndex(IIILjava/util/function/BiFunction;)I -/
abbrev M_J16_checkFromToIndex (z0 n0 : Nat) (s' : gS) : gM := (RJ16, cJ16_checkFromToIndex, 4, (some FieldType.int), "checkFromToIndex", [], 1, z0, n0, s'.2.1, s'.2.2)
abbrev W_J16_checkFromToIndex (E : gE) (z0 n0 : Nat) (r : Int32) (s' : gS) (pc : Nat) (L : List (Nat × gV)) (st : List gV) (s : gS) : Prop := gW E (M_J16_checkFromToIndex z0 n0 s') (gQm E (M_J16_checkFromToIndex z0 n0 s') (.inl (some (vI r))) s') pc L st s
noncomputable def f_J16_checkFromToIndex_14 (κ : gK) (F : Nat)  (l0 : Int32) (l1 : Int32) (l2 : Int32) (l3 : Option Nat) (s : gS) : Option (Int32 × gS) :=
  none
set_option maxHeartbeats 4000000 in
theorem w_J16_checkFromToIndex_14 {E : gE} {F z0 n0 : Nat} {r : Int32} {s' : gS}   : ∀ (l0 : Int32) (l1 : Int32) (l2 : Int32) (l3 : Option Nat)  (s : gS), f_J16_checkFromToIndex_14 (gk E) F  l0 l1 l2 l3 s = some (r, s') → W_J16_checkFromToIndex E z0 n0 r s' 14 [(0, vI l0), (1, vI l1), (2, vI l2), (3, vR l3)] [] s := by
  intro l0 l1 l2 l3 s hB
  unfold f_J16_checkFromToIndex_14 at hB
  refine gw_aload_n 3 rfl dJ16_checkFromToIndex_14 ?_
  refine gw_iload_n 0 rfl dJ16_checkFromToIndex_15 ?_
  refine gw_iload_n 1 rfl dJ16_checkFromToIndex_16 ?_
  refine gw_iload_n 2 rfl dJ16_checkFromToIndex_17 ?_
  cases hB
noncomputable def f_J16_checkFromToIndex_0 (κ : gK) (F : Nat)  (l0 : Int32) (l1 : Int32) (l2 : Int32) (l3 : Option Nat) (s : gS) : Option (Int32 × gS) :=
  if l0 < 0 then
    f_J16_checkFromToIndex_14 κ F  l0 l1 l2 l3 s
  else
    if l1 < l0 then
      f_J16_checkFromToIndex_14 κ F  l0 l1 l2 l3 s
    else
      if l1 ≤ l2 then
        some (l0, s)
      else
        f_J16_checkFromToIndex_14 κ F  l0 l1 l2 l3 s
set_option maxHeartbeats 4000000 in
theorem w_J16_checkFromToIndex_0 {E : gE} {F z0 n0 : Nat} {r : Int32} {s' : gS}   : ∀ (l0 : Int32) (l1 : Int32) (l2 : Int32) (l3 : Option Nat)  (s : gS), f_J16_checkFromToIndex_0 (gk E) F  l0 l1 l2 l3 s = some (r, s') → W_J16_checkFromToIndex E z0 n0 r s' 0 [(0, vI l0), (1, vI l1), (2, vI l2), (3, vR l3)] [] s := by
  intro l0 l1 l2 l3 s hB
  unfold f_J16_checkFromToIndex_0 at hB
  refine gw_iload_n 0 rfl dJ16_checkFromToIndex_0 ?_
  refine gw_if_lt (tgt := 14) dJ16_checkFromToIndex_1 (by decide) (fun hcnd => ?_) (fun hcnd => ?_)
  · rw [if_pos hcnd] at hB
    exact gw_sub [0, 1, 2, 3] rfl (w_J16_checkFromToIndex_14  _ _ _ _ _ hB)
  · rw [if_neg hcnd] at hB
    refine gw_iload_n 0 rfl dJ16_checkFromToIndex_4 ?_
    refine gw_iload_n 1 rfl dJ16_checkFromToIndex_5 ?_
    refine gw_icmp_gt (tgt := 14) dJ16_checkFromToIndex_6 (by decide) (fun hcnd => ?_) (fun hcnd => ?_)
    · rw [if_pos hcnd] at hB
      exact gw_sub [0, 1, 2, 3] rfl (w_J16_checkFromToIndex_14  _ _ _ _ _ hB)
    · rw [if_neg hcnd] at hB
      refine gw_iload_n 1 rfl dJ16_checkFromToIndex_9 ?_
      refine gw_iload_n 2 rfl dJ16_checkFromToIndex_10 ?_
      refine gw_icmp_le (tgt := 22) dJ16_checkFromToIndex_11 (by decide) (fun hcnd => ?_) (fun hcnd => ?_)
      · rw [if_pos hcnd] at hB
        refine gw_iload_n 0 rfl dJ16_checkFromToIndex_22 ?_
        obtain ⟨rfl, rfl⟩ := Prod.mk.inj (Option.some.inj hB)
        exact gw_iret rfl rfl rfl dJ16_checkFromToIndex_23
      · rw [if_neg hcnd] at hB
        exact gw_sub [0, 1, 2, 3] rfl (w_J16_checkFromToIndex_14  _ _ _ _ _ hB)
noncomputable def f_J16_checkFromToIndex (κ : gK) (F : Nat) (a1 : Int32) (a2 : Int32) (a3 : Int32) (a4 : Option Nat) (s : gS) : Option (Int32 × gS) := f_J16_checkFromToIndex_0 κ F a1 a2 a3 a4 s
theorem m_J16_checkFromToIndex {E : gE} {F : Nat} (a1 : Int32) (a2 : Int32) (a3 : Int32) (a4 : Option Nat) (s : gS) (r : Int32) (s' : gS) (h : f_J16_checkFromToIndex (gk E) F a1 a2 a3 a4 s = some (r, s')) : gCT E 1 yJ16_checkFromToIndex (ws_ yJ16_checkFromToIndex cJ16_checkFromToIndex 4 (some FieldType.int)) [vI a1, vI a2, vI a3, vR a4] s (.inl (some (vI r))) s' := by
  refine gCT_of2 (fun h => absurd h (by decide)) (plainFor_of_name (by decide)) (Nat.le_of_ble_eq_true rfl) ?_
  exact gw_sub [0, 1, 2, 3] rfl (w_J16_checkFromToIndex_0 _ _ _ _ _ h)
def dkwJ4_checkBoundsBeginEnd_0 : List UInt8 := [26, 27, 28, 178, 4, 29, 184, 4, 38, 87, 177]
abbrev dktJ4_checkBoundsBeginEnd_0 : List UInt8 := dkwJ4_checkBoundsBeginEnd_0 ++ []
theorem dksJ4_checkBoundsBeginEnd_0 : cJ4_checkBoundsBeginEnd.data.toList.drop 0 = dktJ4_checkBoundsBeginEnd_0 := by decide +kernel
theorem dJ4_checkBoundsBeginEnd_0 : decode cJ4_checkBoundsBeginEnd 0 = .ok (.iload_n 0, 1) := dk_26 (dk_at dksJ4_checkBoundsBeginEnd_0 0 rfl rfl)
theorem dJ4_checkBoundsBeginEnd_1 : decode cJ4_checkBoundsBeginEnd 1 = .ok (.iload_n 1, 1) := dk_27 (dk_at dksJ4_checkBoundsBeginEnd_0 1 rfl rfl)
theorem dJ4_checkBoundsBeginEnd_2 : decode cJ4_checkBoundsBeginEnd 2 = .ok (.iload_n 2, 1) := dk_28 (dk_at dksJ4_checkBoundsBeginEnd_0 2 rfl rfl)
theorem dJ4_checkBoundsBeginEnd_3 : decode cJ4_checkBoundsBeginEnd 3 = .ok (.getstatic 1053, 3) := dk_178 4 29 (dk_at dksJ4_checkBoundsBeginEnd_0 3 rfl rfl)
theorem dJ4_checkBoundsBeginEnd_6 : decode cJ4_checkBoundsBeginEnd 6 = .ok (.invokestatic 1062, 3) := dk_184 4 38 (dk_at dksJ4_checkBoundsBeginEnd_0 6 rfl rfl)
theorem dJ4_checkBoundsBeginEnd_9 : decode cJ4_checkBoundsBeginEnd 9 = .ok (.pop, 1) := dk_87 (dk_at dksJ4_checkBoundsBeginEnd_0 9 rfl rfl)
theorem dJ4_checkBoundsBeginEnd_10 : decode cJ4_checkBoundsBeginEnd 10 = .ok (.return_, 1) := dk_177 (dk_at dksJ4_checkBoundsBeginEnd_0 10 rfl rfl)
/-! java/lang/String.checkBoundsBeginEnd(III)V -/
abbrev M_J4_checkBoundsBeginEnd (z0 n0 : Nat) (s' : gS) : gM := (RJ4, cJ4_checkBoundsBeginEnd, 3, none, "checkBoundsBeginEnd", [], 1, z0, n0, s'.2.1, s'.2.2)
abbrev W_J4_checkBoundsBeginEnd (E : gE) (z0 n0 : Nat) (r : Unit) (s' : gS) (pc : Nat) (L : List (Nat × gV)) (st : List gV) (s : gS) : Prop := gW E (M_J4_checkBoundsBeginEnd z0 n0 s') (gQm E (M_J4_checkBoundsBeginEnd z0 n0 s') (.inl none) s') pc L st s
noncomputable def f_J4_checkBoundsBeginEnd_0 (κ : gK) (F : Nat)  (l0 : Int32) (l1 : Int32) (l2 : Int32) (s : gS) : Option (Unit × gS) :=
  none
set_option maxHeartbeats 4000000 in
theorem w_J4_checkBoundsBeginEnd_0 {E : gE} {F z0 n0 : Nat} {r : Unit} {s' : gS}   : ∀ (l0 : Int32) (l1 : Int32) (l2 : Int32)  (s : gS), f_J4_checkBoundsBeginEnd_0 (gk E) F  l0 l1 l2 s = some (r, s') → W_J4_checkBoundsBeginEnd E z0 n0 r s' 0 [(0, vI l0), (1, vI l1), (2, vI l2)] [] s := by
  intro l0 l1 l2 s hB
  unfold f_J4_checkBoundsBeginEnd_0 at hB
  refine gw_iload_n 0 rfl dJ4_checkBoundsBeginEnd_0 ?_
  refine gw_iload_n 1 rfl dJ4_checkBoundsBeginEnd_1 ?_
  refine gw_iload_n 2 rfl dJ4_checkBoundsBeginEnd_2 ?_
  cases hB
noncomputable def f_J4_checkBoundsBeginEnd (κ : gK) (F : Nat) (a1 : Int32) (a2 : Int32) (a3 : Int32) (s : gS) : Option (Unit × gS) := f_J4_checkBoundsBeginEnd_0 κ F a1 a2 a3 s
theorem m_J4_checkBoundsBeginEnd {E : gE} {F : Nat} (a1 : Int32) (a2 : Int32) (a3 : Int32) (s : gS) (r : Unit) (s' : gS) (h : f_J4_checkBoundsBeginEnd (gk E) F a1 a2 a3 s = some (r, s')) : gCT E 1 yJ4_checkBoundsBeginEnd (ws_ yJ4_checkBoundsBeginEnd cJ4_checkBoundsBeginEnd 3 none) [vI a1, vI a2, vI a3] s (.inl none) s' := by
  refine gCT_of2 (fun h => absurd h (by decide)) (plainFor_of_name (by decide)) (Nat.le_of_ble_eq_true rfl) ?_
  exact gw_sub [0, 1, 2] rfl (w_J4_checkBoundsBeginEnd_0 _ _ _ _ h)
def dkwJ16_checkFromIndexSize_1 : List UInt8 := [172]
abbrev dktJ16_checkFromIndexSize_1 : List UInt8 := dkwJ16_checkFromIndexSize_1 ++ []
def dkwJ16_checkFromIndexSize_0 : List UInt8 := [28, 26, 128, 27, 128, 155, 0, 10, 27, 28, 26, 100, 164, 0, 11, 45, 26, 27, 28, 184, 0, 103, 191, 26]
abbrev dktJ16_checkFromIndexSize_0 : List UInt8 := dkwJ16_checkFromIndexSize_0 ++ dktJ16_checkFromIndexSize_1
theorem dksJ16_checkFromIndexSize_0 : cJ16_checkFromIndexSize.data.toList.drop 0 = dktJ16_checkFromIndexSize_0 := by decide +kernel
theorem dksJ16_checkFromIndexSize_1 : cJ16_checkFromIndexSize.data.toList.drop 24 = dktJ16_checkFromIndexSize_1 := dk_seg dksJ16_checkFromIndexSize_0 24 rfl rfl
theorem dJ16_checkFromIndexSize_0 : decode cJ16_checkFromIndexSize 0 = .ok (.iload_n 2, 1) := dk_28 (dk_at dksJ16_checkFromIndexSize_0 0 rfl rfl)
theorem dJ16_checkFromIndexSize_1 : decode cJ16_checkFromIndexSize 1 = .ok (.iload_n 0, 1) := dk_26 (dk_at dksJ16_checkFromIndexSize_0 1 rfl rfl)
theorem dJ16_checkFromIndexSize_2 : decode cJ16_checkFromIndexSize 2 = .ok (.ior, 1) := dk_128 (dk_at dksJ16_checkFromIndexSize_0 2 rfl rfl)
theorem dJ16_checkFromIndexSize_3 : decode cJ16_checkFromIndexSize 3 = .ok (.iload_n 1, 1) := dk_27 (dk_at dksJ16_checkFromIndexSize_0 3 rfl rfl)
theorem dJ16_checkFromIndexSize_4 : decode cJ16_checkFromIndexSize 4 = .ok (.ior, 1) := dk_128 (dk_at dksJ16_checkFromIndexSize_0 4 rfl rfl)
theorem dJ16_checkFromIndexSize_5 : decode cJ16_checkFromIndexSize 5 = .ok (.ifCond .lt 10, 3) := dk_155 0 10 (dk_at dksJ16_checkFromIndexSize_0 5 rfl rfl)
theorem dJ16_checkFromIndexSize_8 : decode cJ16_checkFromIndexSize 8 = .ok (.iload_n 1, 1) := dk_27 (dk_at dksJ16_checkFromIndexSize_0 8 rfl rfl)
theorem dJ16_checkFromIndexSize_9 : decode cJ16_checkFromIndexSize 9 = .ok (.iload_n 2, 1) := dk_28 (dk_at dksJ16_checkFromIndexSize_0 9 rfl rfl)
theorem dJ16_checkFromIndexSize_10 : decode cJ16_checkFromIndexSize 10 = .ok (.iload_n 0, 1) := dk_26 (dk_at dksJ16_checkFromIndexSize_0 10 rfl rfl)
theorem dJ16_checkFromIndexSize_11 : decode cJ16_checkFromIndexSize 11 = .ok (.isub, 1) := dk_100 (dk_at dksJ16_checkFromIndexSize_0 11 rfl rfl)
theorem dJ16_checkFromIndexSize_12 : decode cJ16_checkFromIndexSize 12 = .ok (.if_icmp .le 11, 3) := dk_164 0 11 (dk_at dksJ16_checkFromIndexSize_0 12 rfl rfl)
theorem dJ16_checkFromIndexSize_15 : decode cJ16_checkFromIndexSize 15 = .ok (.aload_n 3, 1) := dk_45 (dk_at dksJ16_checkFromIndexSize_0 15 rfl rfl)
theorem dJ16_checkFromIndexSize_16 : decode cJ16_checkFromIndexSize 16 = .ok (.iload_n 0, 1) := dk_26 (dk_at dksJ16_checkFromIndexSize_0 16 rfl rfl)
theorem dJ16_checkFromIndexSize_17 : decode cJ16_checkFromIndexSize 17 = .ok (.iload_n 1, 1) := dk_27 (dk_at dksJ16_checkFromIndexSize_0 17 rfl rfl)
theorem dJ16_checkFromIndexSize_18 : decode cJ16_checkFromIndexSize 18 = .ok (.iload_n 2, 1) := dk_28 (dk_at dksJ16_checkFromIndexSize_0 18 rfl rfl)
theorem dJ16_checkFromIndexSize_19 : decode cJ16_checkFromIndexSize 19 = .ok (.invokestatic 103, 3) := dk_184 0 103 (dk_at dksJ16_checkFromIndexSize_0 19 rfl rfl)
theorem dJ16_checkFromIndexSize_22 : decode cJ16_checkFromIndexSize 22 = .ok (.athrow, 1) := dk_191 (dk_at dksJ16_checkFromIndexSize_0 22 rfl rfl)
theorem dJ16_checkFromIndexSize_23 : decode cJ16_checkFromIndexSize 23 = .ok (.iload_n 0, 1) := dk_26 (dk_at dksJ16_checkFromIndexSize_0 23 rfl rfl)
theorem dJ16_checkFromIndexSize_24 : decode cJ16_checkFromIndexSize 24 = .ok (.ireturn, 1) := dk_172 (dk_at dksJ16_checkFromIndexSize_1 0 rfl rfl)
/-! jdk/internal/util/Preconditions.checkFromIndexSize(IIILjava/util/function/BiFunction;)I -/
abbrev M_J16_checkFromIndexSize (z0 n0 : Nat) (s' : gS) : gM := (RJ16, cJ16_checkFromIndexSize, 4, (some FieldType.int), "checkFromIndexSize", [], 1, z0, n0, s'.2.1, s'.2.2)
abbrev W_J16_checkFromIndexSize (E : gE) (z0 n0 : Nat) (r : Int32) (s' : gS) (pc : Nat) (L : List (Nat × gV)) (st : List gV) (s : gS) : Prop := gW E (M_J16_checkFromIndexSize z0 n0 s') (gQm E (M_J16_checkFromIndexSize z0 n0 s') (.inl (some (vI r))) s') pc L st s
noncomputable def f_J16_checkFromIndexSize_15 (κ : gK) (F : Nat)  (l0 : Int32) (l1 : Int32) (l2 : Int32) (l3 : Option Nat) (s : gS) : Option (Int32 × gS) :=
  none
set_option maxHeartbeats 4000000 in
theorem w_J16_checkFromIndexSize_15 {E : gE} {F z0 n0 : Nat} {r : Int32} {s' : gS}   : ∀ (l0 : Int32) (l1 : Int32) (l2 : Int32) (l3 : Option Nat)  (s : gS), f_J16_checkFromIndexSize_15 (gk E) F  l0 l1 l2 l3 s = some (r, s') → W_J16_checkFromIndexSize E z0 n0 r s' 15 [(0, vI l0), (1, vI l1), (2, vI l2), (3, vR l3)] [] s := by
  intro l0 l1 l2 l3 s hB
  unfold f_J16_checkFromIndexSize_15 at hB
  refine gw_aload_n 3 rfl dJ16_checkFromIndexSize_15 ?_
  refine gw_iload_n 0 rfl dJ16_checkFromIndexSize_16 ?_
  refine gw_iload_n 1 rfl dJ16_checkFromIndexSize_17 ?_
  refine gw_iload_n 2 rfl dJ16_checkFromIndexSize_18 ?_
  cases hB
noncomputable def f_J16_checkFromIndexSize_0 (κ : gK) (F : Nat)  (l0 : Int32) (l1 : Int32) (l2 : Int32) (l3 : Option Nat) (s : gS) : Option (Int32 × gS) :=
  if ((l2 ||| l0) ||| l1) < 0 then
    f_J16_checkFromIndexSize_15 κ F  l0 l1 l2 l3 s
  else
    if l1 ≤ (l2 - l0) then
      some (l0, s)
    else
      f_J16_checkFromIndexSize_15 κ F  l0 l1 l2 l3 s
set_option maxHeartbeats 4000000 in
theorem w_J16_checkFromIndexSize_0 {E : gE} {F z0 n0 : Nat} {r : Int32} {s' : gS}   : ∀ (l0 : Int32) (l1 : Int32) (l2 : Int32) (l3 : Option Nat)  (s : gS), f_J16_checkFromIndexSize_0 (gk E) F  l0 l1 l2 l3 s = some (r, s') → W_J16_checkFromIndexSize E z0 n0 r s' 0 [(0, vI l0), (1, vI l1), (2, vI l2), (3, vR l3)] [] s := by
  intro l0 l1 l2 l3 s hB
  unfold f_J16_checkFromIndexSize_0 at hB
  refine gw_iload_n 2 rfl dJ16_checkFromIndexSize_0 ?_
  refine gw_iload_n 0 rfl dJ16_checkFromIndexSize_1 ?_
  refine gw_ior dJ16_checkFromIndexSize_2 ?_
  refine gw_iload_n 1 rfl dJ16_checkFromIndexSize_3 ?_
  refine gw_ior dJ16_checkFromIndexSize_4 ?_
  refine gw_if_lt (tgt := 15) dJ16_checkFromIndexSize_5 (by decide) (fun hcnd => ?_) (fun hcnd => ?_)
  · rw [if_pos hcnd] at hB
    exact gw_sub [0, 1, 2, 3] rfl (w_J16_checkFromIndexSize_15  _ _ _ _ _ hB)
  · rw [if_neg hcnd] at hB
    refine gw_iload_n 1 rfl dJ16_checkFromIndexSize_8 ?_
    refine gw_iload_n 2 rfl dJ16_checkFromIndexSize_9 ?_
    refine gw_iload_n 0 rfl dJ16_checkFromIndexSize_10 ?_
    refine gw_isub dJ16_checkFromIndexSize_11 ?_
    refine gw_icmp_le (tgt := 23) dJ16_checkFromIndexSize_12 (by decide) (fun hcnd => ?_) (fun hcnd => ?_)
    · rw [if_pos hcnd] at hB
      refine gw_iload_n 0 rfl dJ16_checkFromIndexSize_23 ?_
      obtain ⟨rfl, rfl⟩ := Prod.mk.inj (Option.some.inj hB)
      exact gw_iret rfl rfl rfl dJ16_checkFromIndexSize_24
    · rw [if_neg hcnd] at hB
      exact gw_sub [0, 1, 2, 3] rfl (w_J16_checkFromIndexSize_15  _ _ _ _ _ hB)
noncomputable def f_J16_checkFromIndexSize (κ : gK) (F : Nat) (a1 : Int32) (a2 : Int32) (a3 : Int32) (a4 : Option Nat) (s : gS) : Option (Int32 × gS) := f_J16_checkFromIndexSize_0 κ F a1 a2 a3 a4 s
theorem m_J16_checkFromIndexSize {E : gE} {F : Nat} (a1 : Int32) (a2 : Int32) (a3 : Int32) (a4 : Option Nat) (s : gS) (r : Int32) (s' : gS) (h : f_J16_checkFromIndexSize (gk E) F a1 a2 a3 a4 s = some (r, s')) : gCT E 1 yJ16_checkFromIndexSize (ws_ yJ16_checkFromIndexSize cJ16_checkFromIndexSize 4 (some FieldType.int)) [vI a1, vI a2, vI a3, vR a4] s (.inl (some (vI r))) s' := by
  refine gCT_of2 (fun h => absurd h (by decide)) (plainFor_of_name (by decide)) (Nat.le_of_ble_eq_true rfl) ?_
  exact gw_sub [0, 1, 2, 3] rfl (w_J16_checkFromIndexSize_0 _ _ _ _ _ h)
def dkwJ4_checkBoundsOffCount_0 : List UInt8 := [26, 27, 28, 178, 4, 29, 184, 4, 41, 172]
abbrev dktJ4_checkBoundsOffCount_0 : List UInt8 := dkwJ4_checkBoundsOffCount_0 ++ []
theorem dksJ4_checkBoundsOffCount_0 : cJ4_checkBoundsOffCount.data.toList.drop 0 = dktJ4_checkBoundsOffCount_0 := by decide +kernel
theorem dJ4_checkBoundsOffCount_0 : decode cJ4_checkBoundsOffCount 0 = .ok (.iload_n 0, 1) := dk_26 (dk_at dksJ4_checkBoundsOffCount_0 0 rfl rfl)
theorem dJ4_checkBoundsOffCount_1 : decode cJ4_checkBoundsOffCount 1 = .ok (.iload_n 1, 1) := dk_27 (dk_at dksJ4_checkBoundsOffCount_0 1 rfl rfl)
theorem dJ4_checkBoundsOffCount_2 : decode cJ4_checkBoundsOffCount 2 = .ok (.iload_n 2, 1) := dk_28 (dk_at dksJ4_checkBoundsOffCount_0 2 rfl rfl)
theorem dJ4_checkBoundsOffCount_3 : decode cJ4_checkBoundsOffCount 3 = .ok (.getstatic 1053, 3) := dk_178 4 29 (dk_at dksJ4_checkBoundsOffCount_0 3 rfl rfl)
theorem dJ4_checkBoundsOffCount_6 : decode cJ4_checkBoundsOffCount 6 = .ok (.invokestatic 1065, 3) := dk_184 4 41 (dk_at dksJ4_checkBoundsOffCount_0 6 rfl rfl)
theorem dJ4_checkBoundsOffCount_9 : decode cJ4_checkBoundsOffCount 9 = .ok (.ireturn, 1) := dk_172 (dk_at dksJ4_checkBoundsOffCount_0 9 rfl rfl)
/-! java/lang/String.checkBoundsOffCount(III)I -/
abbrev M_J4_checkBoundsOffCount (z0 n0 : Nat) (s' : gS) : gM := (RJ4, cJ4_checkBoundsOffCount, 3, (some FieldType.int), "checkBoundsOffCount", [], 1, z0, n0, s'.2.1, s'.2.2)
abbrev W_J4_checkBoundsOffCount (E : gE) (z0 n0 : Nat) (r : Int32) (s' : gS) (pc : Nat) (L : List (Nat × gV)) (st : List gV) (s : gS) : Prop := gW E (M_J4_checkBoundsOffCount z0 n0 s') (gQm E (M_J4_checkBoundsOffCount z0 n0 s') (.inl (some (vI r))) s') pc L st s
noncomputable def f_J4_checkBoundsOffCount_0 (κ : gK) (F : Nat)  (l0 : Int32) (l1 : Int32) (l2 : Int32) (s : gS) : Option (Int32 × gS) :=
  none
set_option maxHeartbeats 4000000 in
theorem w_J4_checkBoundsOffCount_0 {E : gE} {F z0 n0 : Nat} {r : Int32} {s' : gS}   : ∀ (l0 : Int32) (l1 : Int32) (l2 : Int32)  (s : gS), f_J4_checkBoundsOffCount_0 (gk E) F  l0 l1 l2 s = some (r, s') → W_J4_checkBoundsOffCount E z0 n0 r s' 0 [(0, vI l0), (1, vI l1), (2, vI l2)] [] s := by
  intro l0 l1 l2 s hB
  unfold f_J4_checkBoundsOffCount_0 at hB
  refine gw_iload_n 0 rfl dJ4_checkBoundsOffCount_0 ?_
  refine gw_iload_n 1 rfl dJ4_checkBoundsOffCount_1 ?_
  refine gw_iload_n 2 rfl dJ4_checkBoundsOffCount_2 ?_
  cases hB
noncomputable def f_J4_checkBoundsOffCount (κ : gK) (F : Nat) (a1 : Int32) (a2 : Int32) (a3 : Int32) (s : gS) : Option (Int32 × gS) := f_J4_checkBoundsOffCount_0 κ F a1 a2 a3 s
theorem m_J4_checkBoundsOffCount {E : gE} {F : Nat} (a1 : Int32) (a2 : Int32) (a3 : Int32) (s : gS) (r : Int32) (s' : gS) (h : f_J4_checkBoundsOffCount (gk E) F a1 a2 a3 s = some (r, s')) : gCT E 1 yJ4_checkBoundsOffCount (ws_ yJ4_checkBoundsOffCount cJ4_checkBoundsOffCount 3 (some FieldType.int)) [vI a1, vI a2, vI a3] s (.inl (some (vI r))) s' := by
  refine gCT_of2 (fun h => absurd h (by decide)) (plainFor_of_name (by decide)) (Nat.le_of_ble_eq_true rfl) ?_
  exact gw_sub [0, 1, 2] rfl (w_J4_checkBoundsOffCount_0 _ _ _ _ h)
def dkwJ4_checkIndex_0 : List UInt8 := [26, 27, 178, 4, 29, 184, 4, 35, 87, 177]
abbrev dktJ4_checkIndex_0 : List UInt8 := dkwJ4_checkIndex_0 ++ []
theorem dksJ4_checkIndex_0 : cJ4_checkIndex.data.toList.drop 0 = dktJ4_checkIndex_0 := by decide +kernel
theorem dJ4_checkIndex_0 : decode cJ4_checkIndex 0 = .ok (.iload_n 0, 1) := dk_26 (dk_at dksJ4_checkIndex_0 0 rfl rfl)
theorem dJ4_checkIndex_1 : decode cJ4_checkIndex 1 = .ok (.iload_n 1, 1) := dk_27 (dk_at dksJ4_checkIndex_0 1 rfl rfl)
theorem dJ4_checkIndex_2 : decode cJ4_checkIndex 2 = .ok (.getstatic 1053, 3) := dk_178 4 29 (dk_at dksJ4_checkIndex_0 2 rfl rfl)
theorem dJ4_checkIndex_5 : decode cJ4_checkIndex 5 = .ok (.invokestatic 1059, 3) := dk_184 4 35 (dk_at dksJ4_checkIndex_0 5 rfl rfl)
theorem dJ4_checkIndex_8 : decode cJ4_checkIndex 8 = .ok (.pop, 1) := dk_87 (dk_at dksJ4_checkIndex_0 8 rfl rfl)
theorem dJ4_checkIndex_9 : decode cJ4_checkIndex 9 = .ok (.return_, 1) := dk_177 (dk_at dksJ4_checkIndex_0 9 rfl rfl)
/-! java/lang/String.checkIndex(II)V -/
abbrev M_J4_checkIndex (z0 n0 : Nat) (s' : gS) : gM := (RJ4, cJ4_checkIndex, 2, none, "checkIndex", [], 1, z0, n0, s'.2.1, s'.2.2)
abbrev W_J4_checkIndex (E : gE) (z0 n0 : Nat) (r : Unit) (s' : gS) (pc : Nat) (L : List (Nat × gV)) (st : List gV) (s : gS) : Prop := gW E (M_J4_checkIndex z0 n0 s') (gQm E (M_J4_checkIndex z0 n0 s') (.inl none) s') pc L st s
noncomputable def f_J4_checkIndex_0 (κ : gK) (F : Nat)  (l0 : Int32) (l1 : Int32) (s : gS) : Option (Unit × gS) :=
  none
set_option maxHeartbeats 4000000 in
theorem w_J4_checkIndex_0 {E : gE} {F z0 n0 : Nat} {r : Unit} {s' : gS}   : ∀ (l0 : Int32) (l1 : Int32)  (s : gS), f_J4_checkIndex_0 (gk E) F  l0 l1 s = some (r, s') → W_J4_checkIndex E z0 n0 r s' 0 [(0, vI l0), (1, vI l1)] [] s := by
  intro l0 l1 s hB
  unfold f_J4_checkIndex_0 at hB
  refine gw_iload_n 0 rfl dJ4_checkIndex_0 ?_
  refine gw_iload_n 1 rfl dJ4_checkIndex_1 ?_
  cases hB
noncomputable def f_J4_checkIndex (κ : gK) (F : Nat) (a1 : Int32) (a2 : Int32) (s : gS) : Option (Unit × gS) := f_J4_checkIndex_0 κ F a1 a2 s
theorem m_J4_checkIndex {E : gE} {F : Nat} (a1 : Int32) (a2 : Int32) (s : gS) (r : Unit) (s' : gS) (h : f_J4_checkIndex (gk E) F a1 a2 s = some (r, s')) : gCT E 1 yJ4_checkIndex (ws_ yJ4_checkIndex cJ4_checkIndex 2 none) [vI a1, vI a2] s (.inl none) s' := by
  refine gCT_of2 (fun h => absurd h (by decide)) (plainFor_of_name (by decide)) (Nat.le_of_ble_eq_true rfl) ?_
  exact gw_sub [0, 1] rfl (w_J4_checkIndex_0 _ _ _ h)
