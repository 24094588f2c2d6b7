set_option maxRecDepth 100000
def dkwJ6_signedHashCode_1 : List UInt8 := [17, 0, 255, 126, 96, 59, 132, 5, 1, 167, 255, 232, 26, 172]
abbrev dktJ6_signedHashCode_1 : List UInt8 := dkwJ6_signedHashCode_1 ++ []
def dkwJ6_signedHashCode_0 : List UInt8 := [28, 29, 96, 54, 4, 28, 54, 5, 21, 5, 21, 4, 162, 0, 23, 16, 31, 26, 104, 43, 21, 5, 51]
abbrev dktJ6_signedHashCode_0 : List UInt8 := dkwJ6_signedHashCode_0 ++ dktJ6_signedHashCode_1
theorem dksJ6_signedHashCode_0 : cJ6_signedHashCode.data.toList.drop 0 = dktJ6_signedHashCode_0 := by decide +kernel
theorem dksJ6_signedHashCode_1 : cJ6_signedHashCode.data.toList.drop 23 = dktJ6_signedHashCode_1 := dk_seg dksJ6_signedHashCode_0 23 rfl rfl
theorem dJ6_signedHashCode_0 : decode cJ6_signedHashCode 0 = .ok (.iload_n 2, 1) := dk_28 (dk_at dksJ6_signedHashCode_0 0 rfl rfl)
theorem dJ6_signedHashCode_1 : decode cJ6_signedHashCode 1 = .ok (.iload_n 3, 1) := dk_29 (dk_at dksJ6_signedHashCode_0 1 rfl rfl)
theorem dJ6_signedHashCode_2 : decode cJ6_signedHashCode 2 = .ok (.iadd, 1) := dk_96 (dk_at dksJ6_signedHashCode_0 2 rfl rfl)
theorem dJ6_signedHashCode_3 : decode cJ6_signedHashCode 3 = .ok (.istore 4, 2) := dk_54 4 (dk_at dksJ6_signedHashCode_0 3 rfl rfl)
theorem dJ6_signedHashCode_5 : decode cJ6_signedHashCode 5 = .ok (.iload_n 2, 1) := dk_28 (dk_at dksJ6_signedHashCode_0 5 rfl rfl)
theorem dJ6_signedHashCode_6 : decode cJ6_signedHashCode 6 = .ok (.istore 5, 2) := dk_54 5 (dk_at dksJ6_signedHashCode_0 6 rfl rfl)
theorem dJ6_signedHashCode_8 : decode cJ6_signedHashCode 8 = .ok (.iload 5, 2) := dk_21 5 (dk_at dksJ6_signedHashCode_0 8 rfl rfl)
theorem dJ6_signedHashCode_10 : decode cJ6_signedHashCode 10 = .ok (.iload 4, 2) := dk_21 4 (dk_at dksJ6_signedHashCode_0 10 rfl rfl)
theorem dJ6_signedHashCode_12 : decode cJ6_signedHashCode 12 = .ok (.if_icmp .ge 23, 3) := dk_162 0 23 (dk_at dksJ6_signedHashCode_0 12 rfl rfl)
theorem dJ6_signedHashCode_15 : decode cJ6_signedHashCode 15 = .ok (.bipush 31, 2) := dk_16 31 (dk_at dksJ6_signedHashCode_0 15 rfl rfl)
theorem dJ6_signedHashCode_17 : decode cJ6_signedHashCode 17 = .ok (.iload_n 0, 1) := dk_26 (dk_at dksJ6_signedHashCode_0 17 rfl rfl)
theorem dJ6_signedHashCode_18 : decode cJ6_signedHashCode 18 = .ok (.imul, 1) := dk_104 (dk_at dksJ6_signedHashCode_0 18 rfl rfl)
theorem dJ6_signedHashCode_19 : decode cJ6_signedHashCode 19 = .ok (.aload_n 1, 1) := dk_43 (dk_at dksJ6_signedHashCode_0 19 rfl rfl)
theorem dJ6_signedHashCode_20 : decode cJ6_signedHashCode 20 = .ok (.iload 5, 2) := dk_21 5 (dk_at dksJ6_signedHashCode_0 20 rfl rfl)
theorem dJ6_signedHashCode_22 : decode cJ6_signedHashCode 22 = .ok (.baload, 1) := dk_51 (dk_at dksJ6_signedHashCode_0 22 rfl rfl)
theorem dJ6_signedHashCode_23 : decode cJ6_signedHashCode 23 = .ok (.sipush 255, 3) := dk_17 0 255 (dk_at dksJ6_signedHashCode_1 0 rfl rfl)
theorem dJ6_signedHashCode_26 : decode cJ6_signedHashCode 26 = .ok (.iand, 1) := dk_126 (dk_at dksJ6_signedHashCode_1 3 rfl rfl)
theorem dJ6_signedHashCode_27 : decode cJ6_signedHashCode 27 = .ok (.iadd, 1) := dk_96 (dk_at dksJ6_signedHashCode_1 4 rfl rfl)
theorem dJ6_signedHashCode_28 : decode cJ6_signedHashCode 28 = .ok (.istore_n 0, 1) := dk_59 (dk_at dksJ6_signedHashCode_1 5 rfl rfl)
theorem dJ6_signedHashCode_29 : decode cJ6_signedHashCode 29 = .ok (.iinc 5 1, 3) := dk_132 5 1 (dk_at dksJ6_signedHashCode_1 6 rfl rfl)
theorem dJ6_signedHashCode_32 : decode cJ6_signedHashCode 32 = .ok (.goto (-24), 3) := dk_167 255 232 (dk_at dksJ6_signedHashCode_1 9 rfl rfl)
theorem dJ6_signedHashCode_35 : decode cJ6_signedHashCode 35 = .ok (.iload_n 0, 1) := dk_26 (dk_at dksJ6_signedHashCode_1 12 rfl rfl)
theorem dJ6_signedHashCode_36 : decode cJ6_signedHashCode 36 = .ok (.ireturn, 1) := dk_172 (dk_at dksJ6_signedHashCode_1 13 rfl rfl)
/-! jdk/internal/util/ArraysSupport.signedHashCode(I[BII)I -/
abbrev M_J6_signedHashCode (z0 n0 : Nat) (s' : gS) : gM := (RJ6, cJ6_signedHashCode, 6, (some FieldType.int), "signedHashCode", [], 1, z0, n0, s'.2.1, s'.2.2)
abbrev W_J6_signedHashCode (E : gE) (z0 n0 : Nat) (r : Int32) (s' : gS) (pc : Nat) (L : List (Nat × gV)) (st : List gV) (s : gS) : Prop := gW E (M_J6_signedHashCode z0 n0 s') (gQm E (M_J6_signedHashCode z0 n0 s') (.inl (some (vI r))) s') pc L st s
noncomputable def f_J6_signedHashCode_8b (κ : gK) (F : Nat) (k8 : Int32 → Option Nat → Int32 → Int32 → gS → Option (Int32 × gS)) (l0 : Int32) (l1 : Option Nat) (l4 : Int32) (l5 : Int32) (s : gS) : Option (Int32 × gS) :=
  if l4 ≤ l5 then
    some (l0, s)
  else
    gB1 (gaI s l1 2 l5) fun v1 =>
    k8 (((31 : Int32) * l0) + (v1 &&& (255 : Int32))) l1 l4 (l5 + (1 : Int32)) s
noncomputable def f_J6_signedHashCode_8 (κ : gK) (F : Nat)  : Nat → Int32 → Option Nat → Int32 → Int32 → gS → Option (Int32 × gS)
  | 0 => fun _ _ _ _ _ => none
  | n + 1 => f_J6_signedHashCode_8b κ F  (f_J6_signedHashCode_8 κ F  n)
set_option maxHeartbeats 4000000 in
theorem w_J6_signedHashCode_8b {E : gE} {F z0 n0 : Nat} {r : Int32} {s' : gS} {k8 : Int32 → Option Nat → Int32 → Int32 → gS → Option (Int32 × gS)} (hk8 : ∀ (l0 : Int32) (l1 : Option Nat) (l4 : Int32) (l5 : Int32) (s : gS), k8 l0 l1 l4 l5 s = some (r, s') → W_J6_signedHashCode E z0 n0 r s' 8 [(0, vI l0), (1, vR l1), (4, vI l4), (5, vI l5)] [] s) : ∀ (l0 : Int32) (l1 : Option Nat) (l4 : Int32) (l5 : Int32)  (s : gS), f_J6_signedHashCode_8b (gk E) F k8 l0 l1 l4 l5 s = some (r, s') → W_J6_signedHashCode E z0 n0 r s' 8 [(0, vI l0), (1, vR l1), (4, vI l4), (5, vI l5)] [] s := by
  intro l0 l1 l4 l5 s hB
  unfold f_J6_signedHashCode_8b at hB
  refine gw_iload 3 rfl dJ6_signedHashCode_8 ?_
  refine gw_iload 2 rfl dJ6_signedHashCode_10 ?_
  refine gw_icmp_ge (tgt := 35) dJ6_signedHashCode_12 (by decide) (fun hcnd => ?_) (fun hcnd => ?_)
  · rw [if_pos hcnd] at hB
    refine gw_iload_n 0 rfl dJ6_signedHashCode_35 ?_
    obtain ⟨rfl, rfl⟩ := Prod.mk.inj (Option.some.inj hB)
    exact gw_iret rfl rfl rfl dJ6_signedHashCode_36
  · rw [if_neg hcnd] at hB
    refine gw_bipush (v := (31 : Int32)) (by decide) dJ6_signedHashCode_15 ?_
    refine gw_iload_n 0 rfl dJ6_signedHashCode_17 ?_
    refine gw_imul dJ6_signedHashCode_18 ?_
    refine gw_aload_n 1 rfl dJ6_signedHashCode_19 ?_
    refine gw_iload 3 rfl dJ6_signedHashCode_20 ?_
    obtain ⟨v1, hv1, hB⟩ := gB1_some hB
    refine gw_baload hv1 dJ6_signedHashCode_22 ?_
    refine gw_sipush (v := (255 : Int32)) (by decide) dJ6_signedHashCode_23 ?_
    refine gw_iand dJ6_signedHashCode_26 ?_
    refine gw_iadd dJ6_signedHashCode_27 ?_
    refine gw_istore_n (L' := [(0, vI (((31 : Int32) * l0) + (v1 &&& (255 : Int32)))), (1, vR l1), (4, vI l4), (5, vI l5)]) (Nat.le_of_ble_eq_true rfl) rfl dJ6_signedHashCode_28 ?_
    refine gw_iinc (w := (1 : Int32)) (L' := [(5, vI (l5 + (1 : Int32))), (0, vI (((31 : Int32) * l0) + (v1 &&& (255 : Int32)))), (1, vR l1), (4, vI l4)]) 3 rfl (by decide) (Nat.le_of_ble_eq_true rfl) rfl dJ6_signedHashCode_29 ?_
    refine gw_goto (tgt := 8) dJ6_signedHashCode_32 (by decide) ?_
    exact gw_sub [1, 2, 3, 0] rfl (hk8 _ _ _ _ _ hB)
theorem w_J6_signedHashCode_8 {E : gE} {F z0 n0 : Nat} {r : Int32} {s' : gS}   : ∀ (n : Nat) (l0 : Int32) (l1 : Option Nat) (l4 : Int32) (l5 : Int32)  (s : gS), f_J6_signedHashCode_8 (gk E) F  n l0 l1 l4 l5 s = some (r, s') → W_J6_signedHashCode E z0 n0 r s' 8 [(0, vI l0), (1, vR l1), (4, vI l4), (5, vI l5)] [] s := by
  intro n
  induction n with
  | zero => intro l0 l1 l4 l5 s hB; cases hB
  | succ n ih => intro l0 l1 l4 l5 s hB; exact w_J6_signedHashCode_8b ih l0 l1 l4 l5 s hB
noncomputable def f_J6_signedHashCode_0 (κ : gK) (F : Nat)  (l0 : Int32) (l1 : Option Nat) (l2 : Int32) (l3 : Int32) (s : gS) : Option (Int32 × gS) :=
  f_J6_signedHashCode_8 κ F  F l0 l1 (l2 + l3) l2 s
set_option maxHeartbeats 4000000 in
theorem w_J6_signedHashCode_0 {E : gE} {F z0 n0 : Nat} {r : Int32} {s' : gS}   : ∀ (l0 : Int32) (l1 : Option Nat) (l2 : Int32) (l3 : Int32)  (s : gS), f_J6_signedHashCode_0 (gk E) F  l0 l1 l2 l3 s = some (r, s') → W_J6_signedHashCode E z0 n0 r s' 0 [(0, vI l0), (1, vR l1), (2, vI l2), (3, vI l3)] [] s := by
  intro l0 l1 l2 l3 s hB
  unfold f_J6_signedHashCode_0 at hB
  refine gw_iload_n 2 rfl dJ6_signedHashCode_0 ?_
  refine gw_iload_n 3 rfl dJ6_signedHashCode_1 ?_
  refine gw_iadd dJ6_signedHashCode_2 ?_
  refine gw_istore (L' := [(4, vI (l2 + l3)), (0, vI l0), (1, vR l1), (2, vI l2), (3, vI l3)]) (Nat.le_of_ble_eq_true rfl) rfl dJ6_signedHashCode_3 ?_
  refine gw_iload_n 3 rfl dJ6_signedHashCode_5 ?_
  refine gw_istore (L' := [(5, vI l2), (4, vI (l2 + l3)), (0, vI l0), (1, vR l1), (2, vI l2), (3, vI l3)]) (Nat.le_of_ble_eq_true rfl) rfl dJ6_signedHashCode_6 ?_
  exact gw_sub [2, 3, 1, 0] rfl (w_J6_signedHashCode_8  F _ _ _ _ _ hB)
noncomputable def f_J6_signedHashCode (κ : gK) (F : Nat) (a1 : Int32) (a2 : Option Nat) (a3 : Int32) (a4 : Int32) (s : gS) : Option (Int32 × gS) := f_J6_signedHashCode_0 κ F a1 a2 a3 a4 s
theorem m_J6_signedHashCode {E : gE} {F : Nat} (a1 : Int32) (a2 : Option Nat) (a3 : Int32) (a4 : Int32) (s : gS) (r : Int32) (s' : gS) (h : f_J6_signedHashCode (gk E) F a1 a2 a3 a4 s = some (r, s')) : gCT E 1 yJ6_signedHashCode (ws_ yJ6_signedHashCode cJ6_signedHashCode 6 (some FieldType.int)) [vI a1, vR a2, vI a3, vI a4] s (.inl (some (vI r))) s' := by
  refine gCT_of2 (fun h => absurd h (by decide)) (plainFor_of_name (by decide)) (Nat.le_of_ble_eq_true rfl) ?_
  exact gw_sub [0, 1, 2, 3] rfl (w_J6_signedHashCode_0 _ _ _ _ _ h)
def dkwJ6_hashCode_1 : List UInt8 := [59, 132, 5, 1, 167, 255, 236, 26, 172]
abbrev dktJ6_hashCode_1 : List UInt8 := dkwJ6_hashCode_1 ++ []
def dkwJ6_hashCode_0 : List UInt8 := [28, 29, 96, 54, 4, 28, 54, 5, 21, 5, 21, 4, 162, 0, 19, 16, 31, 26, 104, 43, 21, 5, 52, 96]
abbrev dktJ6_hashCode_0 : List UInt8 := dkwJ6_hashCode_0 ++ dktJ6_hashCode_1
theorem dksJ6_hashCode_0 : cJ6_hashCode.data.toList.drop 0 = dktJ6_hashCode_0 := by decide +kernel
theorem dksJ6_hashCode_1 : cJ6_hashCode.data.toList.drop 24 = dktJ6_hashCode_1 := dk_seg dksJ6_hashCode_0 24 rfl rfl
theorem dJ6_hashCode_0 : decode cJ6_hashCode 0 = .ok (.iload_n 2, 1) := dk_28 (dk_at dksJ6_hashCode_0 0 rfl rfl)
theorem dJ6_hashCode_1 : decode cJ6_hashCode 1 = .ok (.iload_n 3, 1) := dk_29 (dk_at dksJ6_hashCode_0 1 rfl rfl)
theorem dJ6_hashCode_2 : decode cJ6_hashCode 2 = .ok (.iadd, 1) := dk_96 (dk_at dksJ6_hashCode_0 2 rfl rfl)
theorem dJ6_hashCode_3 : decode cJ6_hashCode 3 = .ok (.istore 4, 2) := dk_54 4 (dk_at dksJ6_hashCode_0 3 rfl rfl)
theorem dJ6_hashCode_5 : decode cJ6_hashCode 5 = .ok (.iload_n 2, 1) := dk_28 (dk_at dksJ6_hashCode_0 5 rfl rfl)
theorem dJ6_hashCode_6 : decode cJ6_hashCode 6 = .ok (.istore 5, 2) := dk_54 5 (dk_at dksJ6_hashCode_0 6 rfl rfl)
theorem dJ6_hashCode_8 : decode cJ6_hashCode 8 = .ok (.iload 5, 2) := dk_21 5 (dk_at dksJ6_hashCode_0 8 rfl rfl)
theorem dJ6_hashCode_10 : decode cJ6_hashCode 10 = .ok (.iload 4, 2) := dk_21 4 (dk_at dksJ6_hashCode_0 10 rfl rfl)
theorem dJ6_hashCode_12 : decode cJ6_hashCode 12 = .ok (.if_icmp .ge 19, 3) := dk_162 0 19 (dk_at dksJ6_hashCode_0 12 rfl rfl)
theorem dJ6_hashCode_15 : decode cJ6_hashCode 15 = .ok (.bipush 31, 2) := dk_16 31 (dk_at dksJ6_hashCode_0 15 rfl rfl)
theorem dJ6_hashCode_17 : decode cJ6_hashCode 17 = .ok (.iload_n 0, 1) := dk_26 (dk_at dksJ6_hashCode_0 17 rfl rfl)
theorem dJ6_hashCode_18 : decode cJ6_hashCode 18 = .ok (.imul, 1) := dk_104 (dk_at dksJ6_hashCode_0 18 rfl rfl)
theorem dJ6_hashCode_19 : decode cJ6_hashCode 19 = .ok (.aload_n 1, 1) := dk_43 (dk_at dksJ6_hashCode_0 19 rfl rfl)
theorem dJ6_hashCode_20 : decode cJ6_hashCode 20 = .ok (.iload 5, 2) := dk_21 5 (dk_at dksJ6_hashCode_0 20 rfl rfl)
theorem dJ6_hashCode_22 : decode cJ6_hashCode 22 = .ok (.caload, 1) := dk_52 (dk_at dksJ6_hashCode_0 22 rfl rfl)
theorem dJ6_hashCode_23 : decode cJ6_hashCode 23 = .ok (.iadd, 1) := dk_96 (dk_at dksJ6_hashCode_0 23 rfl rfl)
theorem dJ6_hashCode_24 : decode cJ6_hashCode 24 = .ok (.istore_n 0, 1) := dk_59 (dk_at dksJ6_hashCode_1 0 rfl rfl)
theorem dJ6_hashCode_25 : decode cJ6_hashCode 25 = .ok (.iinc 5 1, 3) := dk_132 5 1 (dk_at dksJ6_hashCode_1 1 rfl rfl)
theorem dJ6_hashCode_28 : decode cJ6_hashCode 28 = .ok (.goto (-20), 3) := dk_167 255 236 (dk_at dksJ6_hashCode_1 4 rfl rfl)
theorem dJ6_hashCode_31 : decode cJ6_hashCode 31 = .ok (.iload_n 0, 1) := dk_26 (dk_at dksJ6_hashCode_1 7 rfl rfl)
theorem dJ6_hashCode_32 : decode cJ6_hashCode 32 = .ok (.ireturn, 1) := dk_172 (dk_at dksJ6_hashCode_1 8 rfl rfl)
/-! jdk/internal/util/ArraysSupport.hashCode(I[CII)I -/
abbrev M_J6_hashCode (z0 n0 : Nat) (s' : gS) : gM := (RJ6, cJ6_hashCode, 6, (some FieldType.int), "hashCode", [], 1, z0, n0, s'.2.1, s'.2.2)
abbrev W_J6_hashCode (E : gE) (z0 n0 : Nat) (r : Int32) (s' : gS) (pc : Nat) (L : List (Nat × gV)) (st : List gV) (s : gS) : Prop := gW E (M_J6_hashCode z0 n0 s') (gQm E (M_J6_hashCode z0 n0 s') (.inl (some (vI r))) s') pc L st s
noncomputable def f_J6_hashCode_8b (κ : gK) (F : Nat) (k8 : Int32 → Option Nat → Int32 → Int32 → gS → Option (Int32 × gS)) (l0 : Int32) (l1 : Option Nat) (l4 : Int32) (l5 : Int32) (s : gS) : Option (Int32 × gS) :=
  if l4 ≤ l5 then
    some (l0, s)
  else
    none
noncomputable def f_J6_hashCode_8 (κ : gK) (F : Nat)  : Nat → Int32 → Option Nat → Int32 → Int32 → gS → Option (Int32 × gS)
  | 0 => fun _ _ _ _ _ => none
  | n + 1 => f_J6_hashCode_8b κ F  (f_J6_hashCode_8 κ F  n)
set_option maxHeartbeats 4000000 in
theorem w_J6_hashCode_8b {E : gE} {F z0 n0 : Nat} {r : Int32} {s' : gS} {k8 : Int32 → Option Nat → Int32 → Int32 → gS → Option (Int32 × gS)} (hk8 : ∀ (l0 : Int32) (l1 : Option Nat) (l4 : Int32) (l5 : Int32) (s : gS), k8 l0 l1 l4 l5 s = some (r, s') → W_J6_hashCode E z0 n0 r s' 8 [(0, vI l0), (1, vR l1), (4, vI l4), (5, vI l5)] [] s) : ∀ (l0 : Int32) (l1 : Option Nat) (l4 : Int32) (l5 : Int32)  (s : gS), f_J6_hashCode_8b (gk E) F k8 l0 l1 l4 l5 s = some (r, s') → W_J6_hashCode E z0 n0 r s' 8 [(0, vI l0), (1, vR l1), (4, vI l4), (5, vI l5)] [] s := by
  intro l0 l1 l4 l5 s hB
  unfold f_J6_hashCode_8b at hB
  refine gw_iload 3 rfl dJ6_hashCode_8 ?_
  refine gw_iload 2 rfl dJ6_hashCode_10 ?_
  refine gw_icmp_ge (tgt := 31) dJ6_hashCode_12 (by decide) (fun hcnd => ?_) (fun hcnd => ?_)
  · rw [if_pos hcnd] at hB
    refine gw_iload_n 0 rfl dJ6_hashCode_31 ?_
    obtain ⟨rfl, rfl⟩ := Prod.mk.inj (Option.some.inj hB)
    exact gw_iret rfl rfl rfl dJ6_hashCode_32
  · rw [if_neg hcnd] at hB
    refine gw_bipush (v := (31 : Int32)) (by decide) dJ6_hashCode_15 ?_
    refine gw_iload_n 0 rfl dJ6_hashCode_17 ?_
    refine gw_imul dJ6_hashCode_18 ?_
    refine gw_aload_n 1 rfl dJ6_hashCode_19 ?_
    refine gw_iload 3 rfl dJ6_hashCode_20 ?_
    cases hB
theorem w_J6_hashCode_8 {E : gE} {F z0 n0 : Nat} {r : Int32} {s' : gS}   : ∀ (n : Nat) (l0 : Int32) (l1 : Option Nat) (l4 : Int32) (l5 : Int32)  (s : gS), f_J6_hashCode_8 (gk E) F  n l0 l1 l4 l5 s = some (r, s') → W_J6_hashCode E z0 n0 r s' 8 [(0, vI l0), (1, vR l1), (4, vI l4), (5, vI l5)] [] s := by
  intro n
  induction n with
  | zero => intro l0 l1 l4 l5 s hB; cases hB
  | succ n ih => intro l0 l1 l4 l5 s hB; exact w_J6_hashCode_8b ih l0 l1 l4 l5 s hB
noncomputable def f_J6_hashCode_0 (κ : gK) (F : Nat)  (l0 : Int32) (l1 : Option Nat) (l2 : Int32) (l3 : Int32) (s : gS) : Option (Int32 × gS) :=
  f_J6_hashCode_8 κ F  F l0 l1 (l2 + l3) l2 s
set_option maxHeartbeats 4000000 in
theorem w_J6_hashCode_0 {E : gE} {F z0 n0 : Nat} {r : Int32} {s' : gS}   : ∀ (l0 : Int32) (l1 : Option Nat) (l2 : Int32) (l3 : Int32)  (s : gS), f_J6_hashCode_0 (gk E) F  l0 l1 l2 l3 s = some (r, s') → W_J6_hashCode E z0 n0 r s' 0 [(0, vI l0), (1, vR l1), (2, vI l2), (3, vI l3)] [] s := by
  intro l0 l1 l2 l3 s hB
  unfold f_J6_hashCode_0 at hB
  refine gw_iload_n 2 rfl dJ6_hashCode_0 ?_
  refine gw_iload_n 3 rfl dJ6_hashCode_1 ?_
  refine gw_iadd dJ6_hashCode_2 ?_
  refine gw_istore (L' := [(4, vI (l2 + l3)), (0, vI l0), (1, vR l1), (2, vI l2), (3, vI l3)]) (Nat.le_of_ble_eq_true rfl) rfl dJ6_hashCode_3 ?_
  refine gw_iload_n 3 rfl dJ6_hashCode_5 ?_
  refine gw_istore (L' := [(5, vI l2), (4, vI (l2 + l3)), (0, vI l0), (1, vR l1), (2, vI l2), (3, vI l3)]) (Nat.le_of_ble_eq_true rfl) rfl dJ6_hashCode_6 ?_
  exact gw_sub [2, 3, 1, 0] rfl (w_J6_hashCode_8  F _ _ _ _ _ hB)
noncomputable def f_J6_hashCode (κ : gK) (F : Nat) (a1 : Int32) (a2 : Option Nat) (a3 : Int32) (a4 : Int32) (s : gS) : Option (Int32 × gS) := f_J6_hashCode_0 κ F a1 a2 a3 a4 s
theorem m_J6_hashCode {E : gE} {F : Nat} (a1 : Int32) (a2 : Option Nat) (a3 : Int32) (a4 : Int32) (s : gS) (r : Int32) (s' : gS) (h : f_J6_hashCode (gk E) F a1 a2 a3 a4 s = some (r, s')) : gCT E 1 yJ6_hashCode (ws_ yJ6_hashCode cJ6_hashCode 6 (some FieldType.int)) [vI a1, vR a2, vI a3, vI a4] s (.inl (some (vI r))) s' := by
  refine gCT_of2 (fun h => absurd h (by decide)) (plainFor_of_name (by decide)) (Nat.le_of_ble_eq_true rfl) ?_
  exact gw_sub [0, 1, 2, 3] rfl (w_J6_hashCode_0 _ _ _ _ _ h)
def dkwJ6_hashCode_2_1 : List UInt8 := [59, 132, 5, 1, 167, 255, 236, 26, 172]
abbrev dktJ6_hashCode_2_1 : List UInt8 := dkwJ6_hashCode_2_1 ++ []
def dkwJ6_hashCode_2_0 : List UInt8 := [28, 29, 96, 54, 4, 28, 54, 5, 21, 5, 21, 4, 162, 0, 19, 16, 31, 26, 104, 43, 21, 5, 51, 96]
abbrev dktJ6_hashCode_2_0 : List UInt8 := dkwJ6_hashCode_2_0 ++ dktJ6_hashCode_2_1
theorem dksJ6_hashCode_2_0 : cJ6_hashCode_2.data.toList.drop 0 = dktJ6_hashCode_2_0 := by decide +kernel
theorem dksJ6_hashCode_2_1 : cJ6_hashCode_2.data.toList.drop 24 = dktJ6_hashCode_2_1 := dk_seg dksJ6_hashCode_2_0 24 rfl rfl
theorem dJ6_hashCode_2_0 : decode cJ6_hashCode_2 0 = .ok (.iload_n 2, 1) := dk_28 (dk_at dksJ6_hashCode_2_0 0 rfl rfl)
theorem dJ6_hashCode_2_1 : decode cJ6_hashCode_2 1 = .ok (.iload_n 3, 1) := dk_29 (dk_at dksJ6_hashCode_2_0 1 rfl rfl)
theorem dJ6_hashCode_2_2 : decode cJ6_hashCode_2 2 = .ok (.iadd, 1) := dk_96 (dk_at dksJ6_hashCode_2_0 2 rfl rfl)
theorem dJ6_hashCode_2_3 : decode cJ6_hashCode_2 3 = .ok (.istore 4, 2) := dk_54 4 (dk_at dksJ6_hashCode_2_0 3 rfl rfl)
theorem dJ6_hashCode_2_5 : decode cJ6_hashCode_2 5 = .ok (.iload_n 2, 1) := dk_28 (dk_at dksJ6_hashCode_2_0 5 rfl rfl)
theorem dJ6_hashCode_2_6 : decode cJ6_hashCode_2 6 = .ok (.istore 5, 2) := dk_54 5 (dk_at dksJ6_hashCode_2_0 6 rfl rfl)
theorem dJ6_hashCode_2_8 : decode cJ6_hashCode_2 8 = .ok (.iload 5, 2) := dk_21 5 (dk_at dksJ6_hashCode_2_0 8 rfl rfl)
theorem dJ6_hashCode_2_10 : decode cJ6_hashCode_2 10 = .ok (.iload 4, 2) := dk_21 4 (dk_at dksJ6_hashCode_2_0 10 rfl rfl)
theorem dJ6_hashCode_2_12 : decode cJ6_hashCode_2 12 = .ok (.if_icmp .ge 19, 3) := dk_162 0 19 (dk_at dksJ6_hashCode_2_0 12 rfl rfl)
theorem dJ6_hashCode_2_15 : decode cJ6_hashCode_2 15 = .ok (.bipush 31, 2) := dk_16 31 (dk_at dksJ6_hashCode_2_0 15 rfl rfl)
theorem dJ6_hashCode_2_17 : decode cJ6_hashCode_2 17 = .ok (.iload_n 0, 1) := dk_26 (dk_at dksJ6_hashCode_2_0 17 rfl rfl)
theorem dJ6_hashCode_2_18 : decode cJ6_hashCode_2 18 = .ok (.imul, 1) := dk_104 (dk_at dksJ6_hashCode_2_0 18 rfl rfl)
theorem dJ6_hashCode_2_19 : decode cJ6_hashCode_2 19 = .ok (.aload_n 1, 1) := dk_43 (dk_at dksJ6_hashCode_2_0 19 rfl rfl)
theorem dJ6_hashCode_2_20 : decode cJ6_hashCode_2 20 = .ok (.iload 5, 2) := dk_21 5 (dk_at dksJ6_hashCode_2_0 20 rfl rfl)
theorem dJ6_hashCode_2_22 : decode cJ6_hashCode_2 22 = .ok (.baload, 1) := dk_51 (dk_at dksJ6_hashCode_2_0 22 rfl rfl)
theorem dJ6_hashCode_2_23 : decode cJ6_hashCode_2 23 = .ok (.iadd, 1) := dk_96 (dk_at dksJ6_hashCode_2_0 23 rfl rfl)
theorem dJ6_hashCode_2_24 : decode cJ6_hashCode_2 24 = .ok (.istore_n 0, 1) := dk_59 (dk_at dksJ6_hashCode_2_1 0 rfl rfl)
theorem dJ6_hashCode_2_25 : decode cJ6_hashCode_2 25 = .ok (.iinc 5 1, 3) := dk_132 5 1 (dk_at dksJ6_hashCode_2_1 1 rfl rfl)
theorem dJ6_hashCode_2_28 : decode cJ6_hashCode_2 28 = .ok (.goto (-20), 3) := dk_167 255 236 (dk_at dksJ6_hashCode_2_1 4 rfl rfl)
theorem dJ6_hashCode_2_31 : decode cJ6_hashCode_2 31 = .ok (.iload_n 0, 1) := dk_26 (dk_at dksJ6_hashCode_2_1 7 rfl rfl)
theorem dJ6_hashCode_2_32 : decode cJ6_hashCode_2 32 = .ok (.ireturn, 1) := dk_172 (dk_at dksJ6_hashCode_2_1 8 rfl rfl)
/-! jdk/internal/util/ArraysSupport.hashCode(I[BII)I -/
abbrev M_J6_hashCode_2 (z0 n0 : Nat) (s' : gS) : gM := (RJ6, cJ6_hashCode_2, 6, (some FieldType.int), "hashCode", [], 1, z0, n0, s'.2.1, s'.2.2)
abbrev W_J6_hashCode_2 (E : gE) (z0 n0 : Nat) (r : Int32) (s' : gS) (pc : Nat) (L : List (Nat × gV)) (st : List gV) (s : gS) : Prop := gW E (M_J6_hashCode_2 z0 n0 s') (gQm E (M_J6_hashCode_2 z0 n0 s') (.inl (some (vI r))) s') pc L st s
noncomputable def f_J6_hashCode_2_8b (κ : gK) (F : Nat) (k8 : Int32 → Option Nat → Int32 → Int32 → gS → Option (Int32 × gS)) (l0 : Int32) (l1 : Option Nat) (l4 : Int32) (l5 : Int32) (s : gS) : Option (Int32 × gS) :=
  if l4 ≤ l5 then
    some (l0, s)
  else
    gB1 (gaI s l1 2 l5) fun v1 =>
    k8 (((31 : Int32) * l0) + v1) l1 l4 (l5 + (1 : Int32)) s
noncomputable def f_J6_hashCode_2_8 (κ : gK) (F : Nat)  : Nat → Int32 → Option Nat → Int32 → Int32 → gS → Option (Int32 × gS)
  | 0 => fun _ _ _ _ _ => none
  | n + 1 => f_J6_hashCode_2_8b κ F  (f_J6_hashCode_2_8 κ F  n)
set_option maxHeartbeats 4000000 in
theorem w_J6_hashCode_2_8b {E : gE} {F z0 n0 : Nat} {r : Int32} {s' : gS} {k8 : Int32 → Option Nat → Int32 → Int32 → gS → Option (Int32 × gS)} (hk8 : ∀ (l0 : Int32) (l1 : Option Nat) (l4 : Int32) (l5 : Int32) (s : gS), k8 l0 l1 l4 l5 s = some (r, s') → W_J6_hashCode_2 E z0 n0 r s' 8 [(0, vI l0), (1, vR l1), (4, vI l4), (5, vI l5)] [] s) : ∀ (l0 : Int32) (l1 : Option Nat) (l4 : Int32) (l5 : Int32)  (s : gS), f_J6_hashCode_2_8b (gk E) F k8 l0 l1 l4 l5 s = some (r, s') → W_J6_hashCode_2 E z0 n0 r s' 8 [(0, vI l0), (1, vR l1), (4, vI l4), (5, vI l5)] [] s := by
  intro l0 l1 l4 l5 s hB
  unfold f_J6_hashCode_2_8b at hB
  refine gw_iload 3 rfl dJ6_hashCode_2_8 ?_
  refine gw_iload 2 rfl dJ6_hashCode_2_10 ?_
  refine gw_icmp_ge (tgt := 31) dJ6_hashCode_2_12 (by decide) (fun hcnd => ?_) (fun hcnd => ?_)
  · rw [if_pos hcnd] at hB
    refine gw_iload_n 0 rfl dJ6_hashCode_2_31 ?_
    obtain ⟨rfl, rfl⟩ := Prod.mk.inj (Option.some.inj hB)
    exact gw_iret rfl rfl rfl dJ6_hashCode_2_32
  · rw [if_neg hcnd] at hB
    refine gw_bipush (v := (31 : Int32)) (by decide) dJ6_hashCode_2_15 ?_
    refine gw_iload_n 0 rfl dJ6_hashCode_2_17 ?_
    refine gw_imul dJ6_hashCode_2_18 ?_
    refine gw_aload_n 1 rfl dJ6_hashCode_2_19 ?_
    refine gw_iload 3 rfl dJ6_hashCode_2_20 ?_
    obtain ⟨v1, hv1, hB⟩ := gB1_some hB
    refine gw_baload hv1 dJ6_hashCode_2_22 ?_
    refine gw_iadd dJ6_hashCode_2_23 ?_
    refine gw_istore_n (L' := [(0, vI (((31 : Int32) * l0) + v1)), (1, vR l1), (4, vI l4), (5, vI l5)]) (Nat.le_of_ble_eq_true rfl) rfl dJ6_hashCode_2_24 ?_
    refine gw_iinc (w := (1 : Int32)) (L' := [(5, vI (l5 + (1 : Int32))), (0, vI (((31 : Int32) * l0) + v1)), (1, vR l1), (4, vI l4)]) 3 rfl (by decide) (Nat.le_of_ble_eq_true rfl) rfl dJ6_hashCode_2_25 ?_
    refine gw_goto (tgt := 8) dJ6_hashCode_2_28 (by decide) ?_
    exact gw_sub [1, 2, 3, 0] rfl (hk8 _ _ _ _ _ hB)
theorem w_J6_hashCode_2_8 {E : gE} {F z0 n0 : Nat} {r : Int32} {s' : gS}   : ∀ (n : Nat) (l0 : Int32) (l1 : Option Nat) (l4 : Int32) (l5 : Int32)  (s : gS), f_J6_hashCode_2_8 (gk E) F  n l0 l1 l4 l5 s = some (r, s') → W_J6_hashCode_2 E z0 n0 r s' 8 [(0, vI l0), (1, vR l1), (4, vI l4), (5, vI l5)] [] s := by
  intro n
  induction n with
  | zero => intro l0 l1 l4 l5 s hB; cases hB
  | succ n ih => intro l0 l1 l4 l5 s hB; exact w_J6_hashCode_2_8b ih l0 l1 l4 l5 s hB
noncomputable def f_J6_hashCode_2_0 (κ : gK) (F : Nat)  (l0 : Int32) (l1 : Option Nat) (l2 : Int32) (l3 : Int32) (s : gS) : Option (Int32 × gS) :=
  f_J6_hashCode_2_8 κ F  F l0 l1 (l2 + l3) l2 s
set_option maxHeartbeats 4000000 in
theorem w_J6_hashCode_2_0 {E : gE} {F z0 n0 : Nat} {r : Int32} {s' : gS}   : ∀ (l0 : Int32) (l1 : Option Nat) (l2 : Int32) (l3 : Int32)  (s : gS), f_J6_hashCode_2_0 (gk E) F  l0 l1 l2 l3 s = some (r, s') → W_J6_hashCode_2 E z0 n0 r s' 0 [(0, vI l0), (1, vR l1), (2, vI l2), (3, vI l3)] [] s := by
  intro l0 l1 l2 l3 s hB
  unfold f_J6_hashCode_2_0 at hB
  refine gw_iload_n 2 rfl dJ6_hashCode_2_0 ?_
  refine gw_iload_n 3 rfl dJ6_hashCode_2_1 ?_
  refine gw_iadd dJ6_hashCode_2_2 ?_
  refine gw_istore (L' := [(4, vI (l2 + l3)), (0, vI l0), (1, vR l1), (2, vI l2), (3, vI l3)]) (Nat.le_of_ble_eq_true rfl) rfl dJ6_hashCode_2_3 ?_
  refine gw_iload_n 3 rfl dJ6_hashCode_2_5 ?_
  refine gw_istore (L' := [(5, vI l2), (4, vI (l2 + l3)), (0, vI l0), (1, vR l1), (2, vI l2), (3, vI l3)]) (Nat.le_of_ble_eq_true rfl) rfl dJ6_hashCode_2_6 ?_
  exact gw_sub [2, 3, 1, 0] rfl (w_J6_hashCode_2_8  F _ _ _ _ _ hB)
noncomputable def f_J6_hashCode_2 (κ : gK) (F : Nat) (a1 : Int32) (a2 : Option Nat) (a3 : Int32) (a4 : Int32) (s : gS) : Option (Int32 × gS) := f_J6_hashCode_2_0 κ F a1 a2 a3 a4 s
theorem m_J6_hashCode_2 {E : gE} {F : Nat} (a1 : Int32) (a2 : Option Nat) (a3 : Int32) (a4 : Int32) (s : gS) (r : Int32) (s' : gS) (h : f_J6_hashCode_2 (gk E) F a1 a2 a3 a4 s = some (r, s')) : gCT E 1 yJ6_hashCode_2 (ws_ yJ6_hashCode_2 cJ6_hashCode_2 6 (some FieldType.int)) [vI a1, vR a2, vI a3, vI a4] s (.inl (some (vI r))) s' := by
  refine gCT_of2 (fun h => absurd h (by decide)) (plainFor_of_name (by decide)) (Nat.le_of_ble_eq_true rfl) ?_
  exact gw_sub [0, 1, 2, 3] rfl (w_J6_hashCode_2_0 _ _ _ _ _ h)
def dkwJ6_hashCode_3_1 : List UInt8 := [59, 132, 5, 1, 167, 255, 236, 26, 172]
abbrev dktJ6_hashCode_3_1 : List UInt8 := dkwJ6_hashCode_3_1 ++ []
def dkwJ6_hashCode_3_0 : List UInt8 := [28, 29, 96, 54, 4, 28, 54, 5, 21, 5, 21, 4, 162, 0, 19, 16, 31, 26, 104, 43, 21, 5, 53, 96]
abbrev dktJ6_hashCode_3_0 : List UInt8 := dkwJ6_hashCode_3_0 ++ dktJ6_hashCode_3_1
theorem dksJ6_hashCode_3_0 : cJ6_hashCode_3.data.toList.drop 0 = dktJ6_hashCode_3_0 := by decide +kernel
theorem dksJ6_hashCode_3_1 : cJ6_hashCode_3.data.toList.drop 24 = dktJ6_hashCode_3_1 := dk_seg dksJ6_hashCode_3_0 24 rfl rfl
theorem dJ6_hashCode_3_0 : decode cJ6_hashCode_3 0 = .ok (.iload_n 2, 1) := dk_28 (dk_at dksJ6_hashCode_3_0 0 rfl rfl)
theorem dJ6_hashCode_3_1 : decode cJ6_hashCode_3 1 = .ok (.iload_n 3, 1) := dk_29 (dk_at dksJ6_hashCode_3_0 1 rfl rfl)
theorem dJ6_hashCode_3_2 : decode cJ6_hashCode_3 2 = .ok (.iadd, 1) := dk_96 (dk_at dksJ6_hashCode_3_0 2 rfl rfl)
theorem dJ6_hashCode_3_3 : decode cJ6_hashCode_3 3 = .ok (.istore 4, 2) := dk_54 4 (dk_at dksJ6_hashCode_3_0 3 rfl rfl)
theorem dJ6_hashCode_3_5 : decode cJ6_hashCode_3 5 = .ok (.iload_n 2, 1) := dk_28 (dk_at dksJ6_hashCode_3_0 5 rfl rfl)
theorem dJ6_hashCode_3_6 : decode cJ6_hashCode_3 6 = .ok (.istore 5, 2) := dk_54 5 (dk_at dksJ6_hashCode_3_0 6 rfl rfl)
theorem dJ6_hashCode_3_8 : decode cJ6_hashCode_3 8 = .ok (.iload 5, 2) := dk_21 5 (dk_at dksJ6_hashCode_3_0 8 rfl rfl)
theorem dJ6_hashCode_3_10 : decode cJ6_hashCode_3 10 = .ok (.iload 4, 2) := dk_21 4 (dk_at dksJ6_hashCode_3_0 10 rfl rfl)
theorem dJ6_hashCode_3_12 : decode cJ6_hashCode_3 12 = .ok (.if_icmp .ge 19, 3) := dk_162 0 19 (dk_at dksJ6_hashCode_3_0 12 rfl rfl)
theorem dJ6_hashCode_3_15 : decode cJ6_hashCode_3 15 = .ok (.bipush 31, 2) := dk_16 31 (dk_at dksJ6_hashCode_3_0 15 rfl rfl)
theorem dJ6_hashCode_3_17 : decode cJ6_hashCode_3 17 = .ok (.iload_n 0, 1) := dk_26 (dk_at dksJ6_hashCode_3_0 17 rfl rfl)
theorem dJ6_hashCode_3_18 : decode cJ6_hashCode_3 18 = .ok (.imul, 1) := dk_104 (dk_at dksJ6_hashCode_3_0 18 rfl rfl)
theorem dJ6_hashCode_3_19 : decode cJ6_hashCode_3 19 = .ok (.aload_n 1, 1) := dk_43 (dk_at dksJ6_hashCode_3_0 19 rfl rfl)
theorem dJ6_hashCode_3_20 : decode cJ6_hashCode_3 20 = .ok (.iload 5, 2) := dk_21 5 (dk_at dksJ6_hashCode_3_0 20 rfl rfl)
theorem dJ6_hashCode_3_22 : decode cJ6_hashCode_3 22 = .ok (.saload, 1) := dk_53 (dk_at dksJ6_hashCode_3_0 22 rfl rfl)
theorem dJ6_hashCode_3_23 : decode cJ6_hashCode_3 23 = .ok (.iadd, 1) := dk_96 (dk_at dksJ6_hashCode_3_0 23 rfl rfl)
theorem dJ6_hashCode_3_24 : decode cJ6_hashCode_3 24 = .ok (.istore_n 0, 1) := dk_59 (dk_at dksJ6_hashCode_3_1 0 rfl rfl)
theorem dJ6_hashCode_3_25 : decode cJ6_hashCode_3 25 = .ok (.iinc 5 1, 3) := dk_132 5 1 (dk_at dksJ6_hashCode_3_1 1 rfl rfl)
theorem dJ6_hashCode_3_28 : decode cJ6_hashCode_3 28 = .ok (.goto (-20), 3) := dk_167 255 236 (dk_at dksJ6_hashCode_3_1 4 rfl rfl)
theorem dJ6_hashCode_3_31 : decode cJ6_hashCode_3 31 = .ok (.iload_n 0, 1) := dk_26 (dk_at dksJ6_hashCode_3_1 7 rfl rfl)
theorem dJ6_hashCode_3_32 : decode cJ6_hashCode_3 32 = .ok (.ireturn, 1) := dk_172 (dk_at dksJ6_hashCode_3_1 8 rfl rfl)
/-! jdk/internal/util/ArraysSupport.hashCode(I[SII)I -/
abbrev M_J6_hashCode_3 (z0 n0 : Nat) (s' : gS) : gM := (RJ6, cJ6_hashCode_3, 6, (some FieldType.int), "hashCode", [], 1, z0, n0, s'.2.1, s'.2.2)
abbrev W_J6_hashCode_3 (E : gE) (z0 n0 : Nat) (r : Int32) (s' : gS) (pc : Nat) (L : List (Nat × gV)) (st : List gV) (s : gS) : Prop := gW E (M_J6_hashCode_3 z0 n0 s') (gQm E (M_J6_hashCode_3 z0 n0 s') (.inl (some (vI r))) s') pc L st s
noncomputable def f_J6_hashCode_3_0 (κ : gK) (F : Nat)  (l0 : Int32) (l1 : Option Nat) (l2 : Int32) (l3 : Int32) (s : gS) : Option (Int32 × gS) :=
  if (l2 + l3) ≤ l2 then
    some (l0, s)
  else
    none
set_option maxHeartbeats 4000000 in
theorem w_J6_hashCode_3_0 {E : gE} {F z0 n0 : Nat} {r : Int32} {s' : gS}   : ∀ (l0 : Int32) (l1 : Option Nat) (l2 : Int32) (l3 : Int32)  (s : gS), f_J6_hashCode_3_0 (gk E) F  l0 l1 l2 l3 s = some (r, s') → W_J6_hashCode_3 E z0 n0 r s' 0 [(0, vI l0), (1, vR l1), (2, vI l2), (3, vI l3)] [] s := by
  intro l0 l1 l2 l3 s hB
  unfold f_J6_hashCode_3_0 at hB
  refine gw_iload_n 2 rfl dJ6_hashCode_3_0 ?_
  refine gw_iload_n 3 rfl dJ6_hashCode_3_1 ?_
  refine gw_iadd dJ6_hashCode_3_2 ?_
  refine gw_istore (L' := [(4, vI (l2 + l3)), (0, vI l0), (1, vR l1), (2, vI l2), (3, vI l3)]) (Nat.le_of_ble_eq_true rfl) rfl dJ6_hashCode_3_3 ?_
  refine gw_iload_n 3 rfl dJ6_hashCode_3_5 ?_
  refine gw_istore (L' := [(5, vI l2), (4, vI (l2 + l3)), (0, vI l0), (1, vR l1), (2, vI l2), (3, vI l3)]) (Nat.le_of_ble_eq_true rfl) rfl dJ6_hashCode_3_6 ?_
  refine gw_iload 0 rfl dJ6_hashCode_3_8 ?_
  refine gw_iload 1 rfl dJ6_hashCode_3_10 ?_
  refine gw_icmp_ge (tgt := 31) dJ6_hashCode_3_12 (by decide) (fun hcnd => ?_) (fun hcnd => ?_)
  · rw [if_pos hcnd] at hB
    refine gw_iload_n 2 rfl dJ6_hashCode_3_31 ?_
    obtain ⟨rfl, rfl⟩ := Prod.mk.inj (Option.some.inj hB)
    exact gw_iret rfl rfl rfl dJ6_hashCode_3_32
  · rw [if_neg hcnd] at hB
    refine gw_bipush (v := (31 : Int32)) (by decide) dJ6_hashCode_3_15 ?_
    refine gw_iload_n 2 rfl dJ6_hashCode_3_17 ?_
    refine gw_imul dJ6_hashCode_3_18 ?_
    refine gw_aload_n 3 rfl dJ6_hashCode_3_19 ?_
    refine gw_iload 0 rfl dJ6_hashCode_3_20 ?_
    cases hB
noncomputable def f_J6_hashCode_3 (κ : gK) (F : Nat) (a1 : Int32) (a2 : Option Nat) (a3 : Int32) (a4 : Int32) (s : gS) : Option (Int32 × gS) := f_J6_hashCode_3_0 κ F a1 a2 a3 a4 s
theorem m_J6_hashCode_3 {E : gE} {F : Nat} (a1 : Int32) (a2 : Option Nat) (a3 : Int32) (a4 : Int32) (s : gS) (r : Int32) (s' : gS) (h : f_J6_hashCode_3 (gk E) F a1 a2 a3 a4 s = some (r, s')) : gCT E 1 yJ6_hashCode_3 (ws_ yJ6_hashCode_3 cJ6_hashCode_3 6 (some FieldType.int)) [vI a1, vR a2, vI a3, vI a4] s (.inl (some (vI r))) s' := by
  refine gCT_of2 (fun h => absurd h (by decide)) (plainFor_of_name (by decide)) (Nat.le_of_ble_eq_true rfl) ?_
  exact gw_sub [0, 1, 2, 3] rfl (w_J6_hashCode_3_0 _ _ _ _ _ h)
def dkwJ6_hashCode_4_1 : List UInt8 := [59, 132, 5, 1, 167, 255, 236, 26, 172]
abbrev dktJ6_hashCode_4_1 : List UInt8 := dkwJ6_hashCode_4_1 ++ []
def dkwJ6_hashCode_4_0 : List UInt8 := [28, 29, 96, 54, 4, 28, 54, 5, 21, 5, 21, 4, 162, 0, 19, 16, 31, 26, 104, 43, 21, 5, 46, 96]
abbrev dktJ6_hashCode_4_0 : List UInt8 := dkwJ6_hashCode_4_0 ++ dktJ6_hashCode_4_1
theorem dksJ6_hashCode_4_0 : cJ6_hashCode_4.data.toList.drop 0 = dktJ6_hashCode_4_0 := by decide +kernel
theorem dksJ6_hashCode_4_1 : cJ6_hashCode_4.data.toList.drop 24 = dktJ6_hashCode_4_1 := dk_seg dksJ6_hashCode_4_0 24 rfl rfl
theorem dJ6_hashCode_4_0 : decode cJ6_hashCode_4 0 = .ok (.iload_n 2, 1) := dk_28 (dk_at dksJ6_hashCode_4_0 0 rfl rfl)
theorem dJ6_hashCode_4_1 : decode cJ6_hashCode_4 1 = .ok (.iload_n 3, 1) := dk_29 (dk_at dksJ6_hashCode_4_0 1 rfl rfl)
theorem dJ6_hashCode_4_2 : decode cJ6_hashCode_4 2 = .ok (.iadd, 1) := dk_96 (dk_at dksJ6_hashCode_4_0 2 rfl rfl)
theorem dJ6_hashCode_4_3 : decode cJ6_hashCode_4 3 = .ok (.istore 4, 2) := dk_54 4 (dk_at dksJ6_hashCode_4_0 3 rfl rfl)
theorem dJ6_hashCode_4_5 : decode cJ6_hashCode_4 5 = .ok (.iload_n 2, 1) := dk_28 (dk_at dksJ6_hashCode_4_0 5 rfl rfl)
theorem dJ6_hashCode_4_6 : decode cJ6_hashCode_4 6 = .ok (.istore 5, 2) := dk_54 5 (dk_at dksJ6_hashCode_4_0 6 rfl rfl)
theorem dJ6_hashCode_4_8 : decode cJ6_hashCode_4 8 = .ok (.iload 5, 2) := dk_21 5 (dk_at dksJ6_hashCode_4_0 8 rfl rfl)
theorem dJ6_hashCode_4_10 : decode cJ6_hashCode_4 10 = .ok (.iload 4, 2) := dk_21 4 (dk_at dksJ6_hashCode_4_0 10 rfl rfl)
theorem dJ6_hashCode_4_12 : decode cJ6_hashCode_4 12 = .ok (.if_icmp .ge 19, 3) := dk_162 0 19 (dk_at dksJ6_hashCode_4_0 12 rfl rfl)
theorem dJ6_hashCode_4_15 : decode cJ6_hashCode_4 15 = .ok (.bipush 31, 2) := dk_16 31 (dk_at dksJ6_hashCode_4_0 15 rfl rfl)
theorem dJ6_hashCode_4_17 : decode cJ6_hashCode_4 17 = .ok (.iload_n 0, 1) := dk_26 (dk_at dksJ6_hashCode_4_0 17 rfl rfl)
theorem dJ6_hashCode_4_18 : decode cJ6_hashCode_4 18 = .ok (.imul, 1) := dk_104 (dk_at dksJ6_hashCode_4_0 18 rfl rfl)
theorem dJ6_hashCode_4_19 : decode cJ6_hashCode_4 19 = .ok (.aload_n 1, 1) := dk_43 (dk_at dksJ6_hashCode_4_0 19 rfl rfl)
theorem dJ6_hashCode_4_20 : decode cJ6_hashCode_4 20 = .ok (.iload 5, 2) := dk_21 5 (dk_at dksJ6_hashCode_4_0 20 rfl rfl)
theorem dJ6_hashCode_4_22 : decode cJ6_hashCode_4 22 = .ok (.iaload, 1) := dk_46 (dk_at dksJ6_hashCode_4_0 22 rfl rfl)
theorem dJ6_hashCode_4_23 : decode cJ6_hashCode_4 23 = .ok (.iadd, 1) := dk_96 (dk_at dksJ6_hashCode_4_0 23 rfl rfl)
theorem dJ6_hashCode_4_24 : decode cJ6_hashCode_4 24 = .ok (.istore_n 0, 1) := dk_59 (dk_at dksJ6_hashCode_4_1 0 rfl rfl)
theorem dJ6_hashCode_4_25 : decode cJ6_hashCode_4 25 = .ok (.iinc 5 1, 3) := dk_132 5 1 (dk_at dksJ6_hashCode_4_1 1 rfl rfl)
theorem dJ6_hashCode_4_28 : decode cJ6_hashCode_4 28 = .ok (.goto (-20), 3) := dk_167 255 236 (dk_at dksJ6_hashCode_4_1 4 rfl rfl)
theorem dJ6_hashCode_4_31 : decode cJ6_hashCode_4 31 = .ok (.iload_n 0, 1) := dk_26 (dk_at dksJ6_hashCode_4_1 7 rfl rfl)
theorem dJ6_hashCode_4_32 : decode cJ6_hashCode_4 32 = .ok (.ireturn, 1) := dk_172 (dk_at dksJ6_hashCode_4_1 8 rfl rfl)
/-! jdk/internal/util/ArraysSupport.hashCode(I[III)I -/
abbrev M_J6_hashCode_4 (z0 n0 : Nat) (s' : gS) : gM := (RJ6, cJ6_hashCode_4, 6, (some FieldType.int), "hashCode", [], 1, z0, n0, s'.2.1, s'.2.2)
abbrev W_J6_hashCode_4 (E : gE) (z0 n0 : Nat) (r : Int32) (s' : gS) (pc : Nat) (L : List (Nat × gV)) (st : List gV) (s : gS) : Prop := gW E (M_J6_hashCode_4 z0 n0 s') (gQm E (M_J6_hashCode_4 z0 n0 s') (.inl (some (vI r))) s') pc L st s
noncomputable def f_J6_hashCode_4_8b (κ : gK) (F : Nat) (k8 : Int32 → Option Nat → Int32 → Int32 → gS → Option (Int32 × gS)) (l0 : Int32) (l1 : Option Nat) (l4 : Int32) (l5 : Int32) (s : gS) : Option (Int32 × gS) :=
  if l4 ≤ l5 then
    some (l0, s)
  else
    gB1 (gaI s l1 0 l5) fun v1 =>
    k8 (((31 : Int32) * l0) + v1) l1 l4 (l5 + (1 : Int32)) s
noncomputable def f_J6_hashCode_4_8 (κ : gK) (F : Nat)  : Nat → Int32 → Option Nat → Int32 → Int32 → gS → Option (Int32 × gS)
  | 0 => fun _ _ _ _ _ => none
  | n + 1 => f_J6_hashCode_4_8b κ F  (f_J6_hashCode_4_8 κ F  n)
set_option maxHeartbeats 4000000 in
theorem w_J6_hashCode_4_8b {E : gE} {F z0 n0 : Nat} {r : Int32} {s' : gS} {k8 : Int32 → Option Nat → Int32 → Int32 → gS → Option (Int32 × gS)} (hk8 : ∀ (l0 : Int32) (l1 : Option Nat) (l4 : Int32) (l5 : Int32) (s : gS), k8 l0 l1 l4 l5 s = some (r, s') → W_J6_hashCode_4 E z0 n0 r s' 8 [(0, vI l0), (1, vR l1), (4, vI l4), (5, vI l5)] [] s) : ∀ (l0 : Int32) (l1 : Option Nat) (l4 : Int32) (l5 : Int32)  (s : gS), f_J6_hashCode_4_8b (gk E) F k8 l0 l1 l4 l5 s = some (r, s') → W_J6_hashCode_4 E z0 n0 r s' 8 [(0, vI l0), (1, vR l1), (4, vI l4), (5, vI l5)] [] s := by
  intro l0 l1 l4 l5 s hB
  unfold f_J6_hashCode_4_8b at hB
  refine gw_iload 3 rfl dJ6_hashCode_4_8 ?_
  refine gw_iload 2 rfl dJ6_hashCode_4_10 ?_
  refine gw_icmp_ge (tgt := 31) dJ6_hashCode_4_12 (by decide) (fun hcnd => ?_) (fun hcnd => ?_)
  · rw [if_pos hcnd] at hB
    refine gw_iload_n 0 rfl dJ6_hashCode_4_31 ?_
    obtain ⟨rfl, rfl⟩ := Prod.mk.inj (Option.some.inj hB)
    exact gw_iret rfl rfl rfl dJ6_hashCode_4_32
  · rw [if_neg hcnd] at hB
    refine gw_bipush (v := (31 : Int32)) (by decide) dJ6_hashCode_4_15 ?_
    refine gw_iload_n 0 rfl dJ6_hashCode_4_17 ?_
    refine gw_imul dJ6_hashCode_4_18 ?_
    refine gw_aload_n 1 rfl dJ6_hashCode_4_19 ?_
    refine gw_iload 3 rfl dJ6_hashCode_4_20 ?_
    obtain ⟨v1, hv1, hB⟩ := gB1_some hB
    refine gw_iaload hv1 dJ6_hashCode_4_22 ?_
    refine gw_iadd dJ6_hashCode_4_23 ?_
    refine gw_istore_n (L' := [(0, vI (((31 : Int32) * l0) + v1)), (1, vR l1), (4, vI l4), (5, vI l5)]) (Nat.le_of_ble_eq_true rfl) rfl dJ6_hashCode_4_24 ?_
    refine gw_iinc (w := (1 : Int32)) (L' := [(5, vI (l5 + (1 : Int32))), (0, vI (((31 : Int32) * l0) + v1)), (1, vR l1), (4, vI l4)]) 3 rfl (by decide) (Nat.le_of_ble_eq_true rfl) rfl dJ6_hashCode_4_25 ?_
    refine gw_goto (tgt := 8) dJ6_hashCode_4_28 (by decide) ?_
    exact gw_sub [1, 2, 3, 0] rfl (hk8 _ _ _ _ _ hB)
theorem w_J6_hashCode_4_8 {E : gE} {F z0 n0 : Nat} {r : Int32} {s' : gS}   : ∀ (n : Nat) (l0 : Int32) (l1 : Option Nat) (l4 : Int32) (l5 : Int32)  (s : gS), f_J6_hashCode_4_8 (gk E) F  n l0 l1 l4 l5 s = some (r, s') → W_J6_hashCode_4 E z0 n0 r s' 8 [(0, vI l0), (1, vR l1), (4, vI l4), (5, vI l5)] [] s := by
  intro n
  induction n with
  | zero => intro l0 l1 l4 l5 s hB; cases hB
  | succ n ih => intro l0 l1 l4 l5 s hB; exact w_J6_hashCode_4_8b ih l0 l1 l4 l5 s hB
noncomputable def f_J6_hashCode_4_0 (κ : gK) (F : Nat)  (l0 : Int32) (l1 : Option Nat) (l2 : Int32) (l3 : Int32) (s : gS) : Option (Int32 × gS) :=
  f_J6_hashCode_4_8 κ F  F l0 l1 (l2 + l3) l2 s
set_option maxHeartbeats 4000000 in
theorem w_J6_hashCode_4_0 {E : gE} {F z0 n0 : Nat} {r : Int32} {s' : gS}   : ∀ (l0 : Int32) (l1 : Option Nat) (l2 : Int32) (l3 : Int32)  (s : gS), f_J6_hashCode_4_0 (gk E) F  l0 l1 l2 l3 s = some (r, s') → W_J6_hashCode_4 E z0 n0 r s' 0 [(0, vI l0), (1, vR l1), (2, vI l2), (3, vI l3)] [] s := by
  intro l0 l1 l2 l3 s hB
  unfold f_J6_hashCode_4_0 at hB
  refine gw_iload_n 2 rfl dJ6_hashCode_4_0 ?_
  refine gw_iload_n 3 rfl dJ6_hashCode_4_1 ?_
  refine gw_iadd dJ6_hashCode_4_2 ?_
  refine gw_istore (L' := [(4, vI (l2 + l3)), (0, vI l0), (1, vR l1), (2, vI l2), (3, vI l3)]) (Nat.le_of_ble_eq_true rfl) rfl dJ6_hashCode_4_3 ?_
  refine gw_iload_n 3 rfl dJ6_hashCode_4_5 ?_
  refine gw_istore (L' := [(5, vI l2), (4, vI (l2 + l3)), (0, vI l0), (1, vR l1), (2, vI l2), (3, vI l3)]) (Nat.le_of_ble_eq_true rfl) rfl dJ6_hashCode_4_6 ?_
  exact gw_sub [2, 3, 1, 0] rfl (w_J6_hashCode_4_8  F _ _ _ _ _ hB)
noncomputable def f_J6_hashCode_4 (κ : gK) (F : Nat) (a1 : Int32) (a2 : Option Nat) (a3 : Int32) (a4 : Int32) (s : gS) : Option (Int32 × gS) := f_J6_hashCode_4_0 κ F a1 a2 a3 a4 s
theorem m_J6_hashCode_4 {E : gE} {F : Nat} (a1 : Int32) (a2 : Option Nat) (a3 : Int32) (a4 : Int32) (s : gS) (r : Int32) (s' : gS) (h : f_J6_hashCode_4 (gk E) F a1 a2 a3 a4 s = some (r, s')) : gCT E 1 yJ6_hashCode_4 (ws_ yJ6_hashCode_4 cJ6_hashCode_4 6 (some FieldType.int)) [vI a1, vR a2, vI a3, vI a4] s (.inl (some (vI r))) s' := by
  refine gCT_of2 (fun h => absurd h (by decide)) (plainFor_of_name (by decide)) (Nat.le_of_ble_eq_true rfl) ?_
  exact gw_sub [0, 1, 2, 3] rfl (w_J6_hashCode_4_0 _ _ _ _ _ h)
def dkwJ6_vectorizedHashCode_6 : List UInt8 := [183, 0, 91, 18, 92, 182, 0, 94, 21, 4, 182, 0, 98, 182, 0, 101, 183, 0, 105, 191, 172]
abbrev dktJ6_vectorizedHashCode_6 : List UInt8 := dkwJ6_vectorizedHashCode_6 ++ []
def dkwJ6_vectorizedHashCode_5 : List UInt8 := [167, 0, 44, 29, 42, 192, 0, 82, 27, 28, 184, 0, 84, 167, 0, 31, 187, 0, 87, 89, 187, 0, 89, 89]
abbrev dktJ6_vectorizedHashCode_5 : List UInt8 := dkwJ6_vectorizedHashCode_5 ++ dktJ6_vectorizedHashCode_6
def dkwJ6_vectorizedHashCode_4 : List UInt8 := [29, 42, 192, 0, 60, 27, 28, 184, 0, 75, 167, 0, 57, 29, 42, 192, 0, 77, 27, 28, 184, 0, 79]
abbrev dktJ6_vectorizedHashCode_4 : List UInt8 := dkwJ6_vectorizedHashCode_4 ++ dktJ6_vectorizedHashCode_5
def dkwJ6_vectorizedHashCode_3 : List UInt8 := [192, 0, 60, 27, 28, 184, 0, 66, 167, 0, 83, 29, 42, 192, 0, 69, 27, 28, 184, 0, 71, 167, 0, 70]
abbrev dktJ6_vectorizedHashCode_3 : List UInt8 := dkwJ6_vectorizedHashCode_3 ++ dktJ6_vectorizedHashCode_4
def dkwJ6_vectorizedHashCode_2 : List UInt8 := [29, 42, 192, 0, 60, 27, 28, 184, 0, 62, 167, 0, 103, 42, 193, 0, 60, 153, 0, 16, 29, 42]
abbrev dktJ6_vectorizedHashCode_2 : List UInt8 := dkwJ6_vectorizedHashCode_2 ++ dktJ6_vectorizedHashCode_3
def dkwJ6_vectorizedHashCode_1 : List UInt8 := [170, 0, 0, 0, 0, 127, 0, 0, 0, 4, 0, 0, 0, 10, 0, 0, 0, 42, 0, 0, 0, 55, 0, 0, 0, 127, 0, 0, 0, 127, 0, 0, 0, 88, 0, 0, 0, 101, 0, 0, 0, 114]
abbrev dktJ6_vectorizedHashCode_1 : List UInt8 := dkwJ6_vectorizedHashCode_1 ++ dktJ6_vectorizedHashCode_2
def dkwJ6_vectorizedHashCode_0 : List UInt8 := [21, 4]
abbrev dktJ6_vectorizedHashCode_0 : List UInt8 := dkwJ6_vectorizedHashCode_0 ++ dktJ6_vectorizedHashCode_1
theorem dksJ6_vectorizedHashCode_0 : cJ6_vectorizedHashCode.data.toList.drop 0 = dktJ6_vectorizedHashCode_0 := by decide +kernel
theorem dksJ6_vectorizedHashCode_1 : cJ6_vectorizedHashCode.data.toList.drop 2 = dktJ6_vectorizedHashCode_1 := dk_seg dksJ6_vectorizedHashCode_0 2 rfl rfl
theorem dksJ6_vectorizedHashCode_2 : cJ6_vectorizedHashCode.data.toList.drop 44 = dktJ6_vectorizedHashCode_2 := dk_seg dksJ6_vectorizedHashCode_1 42 rfl rfl
theorem dksJ6_vectorizedHashCode_3 : cJ6_vectorizedHashCode.data.toList.drop 66 = dktJ6_vectorizedHashCode_3 := dk_seg dksJ6_vectorizedHashCode_2 22 rfl rfl
theorem dksJ6_vectorizedHashCode_4 : cJ6_vectorizedHashCode.data.toList.drop 90 = dktJ6_vectorizedHashCode_4 := dk_seg dksJ6_vectorizedHashCode_3 24 rfl rfl
theorem dksJ6_vectorizedHashCode_5 : cJ6_vectorizedHashCode.data.toList.drop 113 = dktJ6_vectorizedHashCode_5 := dk_seg dksJ6_vectorizedHashCode_4 23 rfl rfl
theorem dksJ6_vectorizedHashCode_6 : cJ6_vectorizedHashCode.data.toList.drop 137 = dktJ6_vectorizedHashCode_6 := dk_seg dksJ6_vectorizedHashCode_5 24 rfl rfl
theorem dJ6_vectorizedHashCode_0 : decode cJ6_vectorizedHashCode 0 = .ok (.iload 4, 2) := dk_21 4 (dk_at dksJ6_vectorizedHashCode_0 0 rfl rfl)
theorem dJ6_vectorizedHashCode_2 : decode cJ6_vectorizedHashCode 2 = .ok (.tableswitch 127 4 10 #[42, 55, 127, 127, 88, 101, 114], 42) := by decide +kernel
theorem dJ6_vectorizedHashCode_44 : decode cJ6_vectorizedHashCode 44 = .ok (.iload_n 3, 1) := dk_29 (dk_at dksJ6_vectorizedHashCode_2 0 rfl rfl)
theorem dJ6_vectorizedHashCode_45 : decode cJ6_vectorizedHashCode 45 = .ok (.aload_n 0, 1) := dk_42 (dk_at dksJ6_vectorizedHashCode_2 1 rfl rfl)
theorem dJ6_vectorizedHashCode_46 : decode cJ6_vectorizedHashCode 46 = .ok (.checkcast 60, 3) := dk_192 0 60 (dk_at dksJ6_vectorizedHashCode_2 2 rfl rfl)
theorem dJ6_vectorizedHashCode_49 : decode cJ6_vectorizedHashCode 49 = .ok (.iload_n 1, 1) := dk_27 (dk_at dksJ6_vectorizedHashCode_2 5 rfl rfl)
theorem dJ6_vectorizedHashCode_50 : decode cJ6_vectorizedHashCode 50 = .ok (.iload_n 2, 1) := dk_28 (dk_at dksJ6_vectorizedHashCode_2 6 rfl rfl)
theorem dJ6_vectorizedHashCode_51 : decode cJ6_vectorizedHashCode 51 = .ok (.invokestatic 62, 3) := dk_184 0 62 (dk_at dksJ6_vectorizedHashCode_2 7 rfl rfl)
theorem dJ6_vectorizedHashCode_54 : decode cJ6_vectorizedHashCode 54 = .ok (.goto 103, 3) := dk_167 0 103 (dk_at dksJ6_vectorizedHashCode_2 10 rfl rfl)
theorem dJ6_vectorizedHashCode_57 : decode cJ6_vectorizedHashCode 57 = .ok (.aload_n 0, 1) := dk_42 (dk_at dksJ6_vectorizedHashCode_2 13 rfl rfl)
theorem dJ6_vectorizedHashCode_58 : decode cJ6_vectorizedHashCode 58 = .ok (.instanceof 60, 3) := dk_193 0 60 (dk_at dksJ6_vectorizedHashCode_2 14 rfl rfl)
theorem dJ6_vectorizedHashCode_61 : decode cJ6_vectorizedHashCode 61 = .ok (.ifCond .eq 16, 3) := dk_153 0 16 (dk_at dksJ6_vectorizedHashCode_2 17 rfl rfl)
theorem dJ6_vectorizedHashCode_64 : decode cJ6_vectorizedHashCode 64 = .ok (.iload_n 3, 1) := dk_29 (dk_at dksJ6_vectorizedHashCode_2 20 rfl rfl)
theorem dJ6_vectorizedHashCode_65 : decode cJ6_vectorizedHashCode 65 = .ok (.aload_n 0, 1) := dk_42 (dk_at dksJ6_vectorizedHashCode_2 21 rfl rfl)
theorem dJ6_vectorizedHashCode_66 : decode cJ6_vectorizedHashCode 66 = .ok (.checkcast 60, 3) := dk_192 0 60 (dk_at dksJ6_vectorizedHashCode_3 0 rfl rfl)
theorem dJ6_vectorizedHashCode_69 : decode cJ6_vectorizedHashCode 69 = .ok (.iload_n 1, 1) := dk_27 (dk_at dksJ6_vectorizedHashCode_3 3 rfl rfl)
theorem dJ6_vectorizedHashCode_70 : decode cJ6_vectorizedHashCode 70 = .ok (.iload_n 2, 1) := dk_28 (dk_at dksJ6_vectorizedHashCode_3 4 rfl rfl)
theorem dJ6_vectorizedHashCode_71 : decode cJ6_vectorizedHashCode 71 = .ok (.invokestatic 66, 3) := dk_184 0 66 (dk_at dksJ6_vectorizedHashCode_3 5 rfl rfl)
theorem dJ6_vectorizedHashCode_74 : decode cJ6_vectorizedHashCode 74 = .ok (.goto 83, 3) := dk_167 0 83 (dk_at dksJ6_vectorizedHashCode_3 8 rfl rfl)
theorem dJ6_vectorizedHashCode_77 : decode cJ6_vectorizedHashCode 77 = .ok (.iload_n 3, 1) := dk_29 (dk_at dksJ6_vectorizedHashCode_3 11 rfl rfl)
theorem dJ6_vectorizedHashCode_78 : decode cJ6_vectorizedHashCode 78 = .ok (.aload_n 0, 1) := dk_42 (dk_at dksJ6_vectorizedHashCode_3 12 rfl rfl)
theorem dJ6_vectorizedHashCode_79 : decode cJ6_vectorizedHashCode 79 = .ok (.checkcast 69, 3) := dk_192 0 69 (dk_at dksJ6_vectorizedHashCode_3 13 rfl rfl)
theorem dJ6_vectorizedHashCode_82 : decode cJ6_vectorizedHashCode 82 = .ok (.iload_n 1, 1) := dk_27 (dk_at dksJ6_vectorizedHashCode_3 16 rfl rfl)
theorem dJ6_vectorizedHashCode_83 : decode cJ6_vectorizedHashCode 83 = .ok (.iload_n 2, 1) := dk_28 (dk_at dksJ6_vectorizedHashCode_3 17 rfl rfl)
theorem dJ6_vectorizedHashCode_84 : decode cJ6_vectorizedHashCode 84 = .ok (.invokestatic 71, 3) := dk_184 0 71 (dk_at dksJ6_vectorizedHashCode_3 18 rfl rfl)
theorem dJ6_vectorizedHashCode_87 : decode cJ6_vectorizedHashCode 87 = .ok (.goto 70, 3) := dk_167 0 70 (dk_at dksJ6_vectorizedHashCode_3 21 rfl rfl)
theorem dJ6_vectorizedHashCode_90 : decode cJ6_vectorizedHashCode 90 = .ok (.iload_n 3, 1) := dk_29 (dk_at dksJ6_vectorizedHashCode_4 0 rfl rfl)
theorem dJ6_vectorizedHashCode_91 : decode cJ6_vectorizedHashCode 91 = .ok (.aload_n 0, 1) := dk_42 (dk_at dksJ6_vectorizedHashCode_4 1 rfl rfl)
theorem dJ6_vectorizedHashCode_92 : decode cJ6_vectorizedHashCode 92 = .ok (.checkcast 60, 3) := dk_192 0 60 (dk_at dksJ6_vectorizedHashCode_4 2 rfl rfl)
theorem dJ6_vectorizedHashCode_95 : decode cJ6_vectorizedHashCode 95 = .ok (.iload_n 1, 1) := dk_27 (dk_at dksJ6_vectorizedHashCode_4 5 rfl rfl)
theorem dJ6_vectorizedHashCode_96 : decode cJ6_vectorizedHashCode 96 = .ok (.iload_n 2, 1) := dk_28 (dk_at dksJ6_vectorizedHashCode_4 6 rfl rfl)
theorem dJ6_vectorizedHashCode_97 : decode cJ6_vectorizedHashCode 97 = .ok (.invokestatic 75, 3) := dk_184 0 75 (dk_at dksJ6_vectorizedHashCode_4 7 rfl rfl)
theorem dJ6_vectorizedHashCode_100 : decode cJ6_vectorizedHashCode 100 = .ok (.goto 57, 3) := dk_167 0 57 (dk_at dksJ6_vectorizedHashCode_4 10 rfl rfl)
theorem dJ6_vectorizedHashCode_103 : decode cJ6_vectorizedHashCode 103 = .ok (.iload_n 3, 1) := dk_29 (dk_at dksJ6_vectorizedHashCode_4 13 rfl rfl)
theorem dJ6_vectorizedHashCode_104 : decode cJ6_vectorizedHashCode 104 = .ok (.aload_n 0, 1) := dk_42 (dk_at dksJ6_vectorizedHashCode_4 14 rfl rfl)
theorem dJ6_vectorizedHashCode_105 : decode cJ6_vectorizedHashCode 105 = .ok (.checkcast 77, 3) := dk_192 0 77 (dk_at dksJ6_vectorizedHashCode_4 15 rfl rfl)
theorem dJ6_vectorizedHashCode_108 : decode cJ6_vectorizedHashCode 108 = .ok (.iload_n 1, 1) := dk_27 (dk_at dksJ6_vectorizedHashCode_4 18 rfl rfl)
theorem dJ6_vectorizedHashCode_109 : decode cJ6_vectorizedHashCode 109 = .ok (.iload_n 2, 1) := dk_28 (dk_at dksJ6_vectorizedHashCode_4 19 rfl rfl)
theorem dJ6_vectorizedHashCode_110 : decode cJ6_vectorizedHashCode 110 = .ok (.invokestatic 79, 3) := dk_184 0 79 (dk_at dksJ6_vectorizedHashCode_4 20 rfl rfl)
theorem dJ6_vectorizedHashCode_113 : decode cJ6_vectorizedHashCode 113 = .ok (.goto 44, 3) := dk_167 0 44 (dk_at dksJ6_vectorizedHashCode_5 0 rfl rfl)
theorem dJ6_vectorizedHashCode_116 : decode cJ6_vectorizedHashCode 116 = .ok (.iload_n 3, 1) := dk_29 (dk_at dksJ6_vectorizedHashCode_5 3 rfl rfl)
theorem dJ6_vectorizedHashCode_117 : decode cJ6_vectorizedHashCode 117 = .ok (.aload_n 0, 1) := dk_42 (dk_at dksJ6_vectorizedHashCode_5 4 rfl rfl)
theorem dJ6_vectorizedHashCode_118 : decode cJ6_vectorizedHashCode 118 = .ok (.checkcast 82, 3) := dk_192 0 82 (dk_at dksJ6_vectorizedHashCode_5 5 rfl rfl)
theorem dJ6_vectorizedHashCode_121 : decode cJ6_vectorizedHashCode 121 = .ok (.iload_n 1, 1) := dk_27 (dk_at dksJ6_vectorizedHashCode_5 8 rfl rfl)
theorem dJ6_vectorizedHashCode_122 : decode cJ6_vectorizedHashCode 122 = .ok (.iload_n 2, 1) := dk_28 (dk_at dksJ6_vectorizedHashCode_5 9 rfl rfl)
theorem dJ6_vectorizedHashCode_123 : decode cJ6_vectorizedHashCode 123 = .ok (.invokestatic 84, 3) := dk_184 0 84 (dk_at dksJ6_vectorizedHashCode_5 10 rfl rfl)
theorem dJ6_vectorizedHashCode_126 : decode cJ6_vectorizedHashCode 126 = .ok (.goto 31, 3) := dk_167 0 31 (dk_at dksJ6_vectorizedHashCode_5 13 rfl rfl)
theorem dJ6_vectorizedHashCode_129 : decode cJ6_vectorizedHashCode 129 = .ok (.new 87, 3) := dk_187 0 87 (dk_at dksJ6_vectorizedHashCode_5 16 rfl rfl)
theorem dJ6_vectorizedHashCode_132 : decode cJ6_vectorizedHashCode 132 = .ok (.dup, 1) := dk_89 (dk_at dksJ6_vectorizedHashCode_5 19 rfl rfl)
theorem dJ6_vectorizedHashCode_133 : decode cJ6_vectorizedHashCode 133 = .ok (.new 89, 3) := dk_187 0 89 (dk_at dksJ6_vectorizedHashCode_5 20 rfl rfl)
theorem dJ6_vectorizedHashCode_136 : decode cJ6_vectorizedHashCode 136 = .ok (.dup, 1) := dk_89 (dk_at dksJ6_vectorizedHashCode_5 23 rfl rfl)
theorem dJ6_vectorizedHashCode_137 : decode cJ6_vectorizedHashCode 137 = .ok (.invokespecial 91, 3) := dk_183 0 91 (dk_at dksJ6_vectorizedHashCode_6 0 rfl rfl)
theorem dJ6_vectorizedHashCode_140 : decode cJ6_vectorizedHashCode 140 = .ok (.ldc 92, 2) := dk_18 92 (dk_at dksJ6_vectorizedHashCode_6 3 rfl rfl)
theorem dJ6_vectorizedHashCode_142 : decode cJ6_vectorizedHashCode 142 = .ok (.invokevirtual 94, 3) := dk_182 0 94 (dk_at dksJ6_vectorizedHashCode_6 5 rfl rfl)
theorem dJ6_vectorizedHashCode_145 : decode cJ6_vectorizedHashCode 145 = .ok (.iload 4, 2) := dk_21 4 (dk_at dksJ6_vectorizedHashCode_6 8 rfl rfl)
theorem dJ6_vectorizedHashCode_147 : decode cJ6_vectorizedHashCode 147 = .ok (.invokevirtual 98, 3) := dk_182 0 98 (dk_at dksJ6_vectorizedHashCode_6 10 rfl rfl)
theorem dJ6_vectorizedHashCode_150 : decode cJ6_vectorizedHashCode 150 = .ok (.invokevirtual 101, 3) := dk_182 0 101 (dk_at dksJ6_vectorizedHashCode_6 13 rfl rfl)
theorem dJ6_vectorizedHashCode_153 : decode cJ6_vectorizedHashCode 153 = .ok (.invokespecial 105, 3) := dk_183 0 105 (dk_at dksJ6_vectorizedHashCode_6 16 rfl rfl)
theorem dJ6_vectorizedHashCode_156 : decode cJ6_vectorizedHashCode 156 = .ok (.athrow, 1) := dk_191 (dk_at dksJ6_vectorizedHashCode_6 19 rfl rfl)
theorem dJ6_vectorizedHashCode_157 : decode cJ6_vectorizedHashCode 157 = .ok (.ireturn, 1) := dk_172 (dk_at dksJ6_vectorizedHashCode_6 20 rfl rfl)
/-! jdk/internal/util/ArraysSupport.vectorizedHashCode(Ljava/lang/Object;IIII)I -/
abbrev M_J6_vectorizedHashCode (z0 n0 : Nat) (s' : gS) : gM := (RJ6, cJ6_vectorizedHashCode, 5, (some FieldType.int), "vectorizedHashCode", [], 2, z0, n0, s'.2.1, s'.2.2)
abbrev W_J6_vectorizedHashCode (E : gE) (z0 n0 : Nat) (r : Int32) (s' : gS) (pc : Nat) (L : List (Nat × gV)) (st : List gV) (s : gS) : Prop := gW E (M_J6_vectorizedHashCode z0 n0 s') (gQm E (M_J6_vectorizedHashCode z0 n0 s') (.inl (some (vI r))) s') pc L st s
noncomputable def f_J6_vectorizedHashCode_129 (κ : gK) (F : Nat)  (l4 : Int32) (s : gS) : Option (Int32 × gS) :=
  none
set_option maxHeartbeats 4000000 in
theorem w_J6_vectorizedHashCode_129 {E : gE} {F z0 n0 : Nat} {r : Int32} {s' : gS}   : ∀ (l4 : Int32)  (s : gS), f_J6_vectorizedHashCode_129 (gk E) F  l4 s = some (r, s') → W_J6_vectorizedHashCode E z0 n0 r s' 129 [(4, vI l4)] [] s := by
  intro l4 s hB
  unfold f_J6_vectorizedHashCode_129 at hB
  cases hB
noncomputable def f_J6_vectorizedHashCode_157 (κ : gK) (F : Nat)  (t0 : Int32) (s : gS) : Option (Int32 × gS) :=
  some (t0, s)
set_option maxHeartbeats 4000000 in
theorem w_J6_vectorizedHashCode_157 {E : gE} {F z0 n0 : Nat} {r : Int32} {s' : gS}   : ∀  (t0 : Int32) (s : gS), f_J6_vectorizedHashCode_157 (gk E) F  t0 s = some (r, s') → W_J6_vectorizedHashCode E z0 n0 r s' 157 [] [vI t0] s := by
  intro t0 s hB
  unfold f_J6_vectorizedHashCode_157 at hB
  obtain ⟨rfl, rfl⟩ := Prod.mk.inj (Option.some.inj hB)
  exact gw_iret rfl rfl rfl dJ6_vectorizedHashCode_157
noncomputable def f_J6_vectorizedHashCode_0 (κ : gK) (F : Nat)  (l0 : Option Nat) (l1 : Int32) (l2 : Int32) (l3 : Int32) (l4 : Int32) (s : gS) : Option (Int32 × gS) :=
  if l4 = (4 : Int32) then
    gB1 (gct s l0 2) fun _ =>
    gB2 (f_J6_signedHashCode κ F l3 l0 l1 l2 s) fun v3 s2 =>
    f_J6_vectorizedHashCode_157 κ F  v3 s2
  else
  if l4 = (5 : Int32) then
    none
  else
  if l4 = (6 : Int32) then
    f_J6_vectorizedHashCode_129 κ F  l4 s
  else
  if l4 = (7 : Int32) then
    f_J6_vectorizedHashCode_129 κ F  l4 s
  else
  if l4 = (8 : Int32) then
    gB1 (gct s l0 2) fun _ =>
    gB2 (f_J6_hashCode_2 κ F l3 l0 l1 l2 s) fun v7 s6 =>
    f_J6_vectorizedHashCode_157 κ F  v7 s6
  else
  if l4 = (9 : Int32) then
    none
  else
  if l4 = (10 : Int32) then
    gB1 (gct s l0 0) fun _ =>
    gB2 (f_J6_hashCode_4 κ F l3 l0 l1 l2 s) fun v10 s9 =>
    f_J6_vectorizedHashCode_157 κ F  v10 s9
  else
  f_J6_vectorizedHashCode_129 κ F  l4 s
set_option maxHeartbeats 4000000 in
theorem w_J6_vectorizedHashCode_0 {E : gE} {F z0 n0 : Nat} {r : Int32} {s' : gS}   : ∀ (l0 : Option Nat) (l1 : Int32) (l2 : Int32) (l3 : Int32) (l4 : Int32)  (s : gS), f_J6_vectorizedHashCode_0 (gk E) F  l0 l1 l2 l3 l4 s = some (r, s') → W_J6_vectorizedHashCode E z0 n0 r s' 0 [(0, vR l0), (1, vI l1), (2, vI l2), (3, vI l3), (4, vI l4)] [] s := by
  intro l0 l1 l2 l3 l4 s hB
  unfold f_J6_vectorizedHashCode_0 at hB
  refine gw_iload 4 rfl dJ6_vectorizedHashCode_0 ?_
  by_cases hs4 : l4 = (4 : Int32)
  · rw [if_pos hs4] at hB
    refine gw_tableIn (off := 42) (tgt := 44) (by rw [hs4]; decide) (by rw [hs4]; decide) (by rw [hs4]; rfl) dJ6_vectorizedHashCode_2 (by decide) ?_
    refine gw_iload_n 3 rfl dJ6_vectorizedHashCode_44 ?_
    refine gw_aload_n 0 rfl dJ6_vectorizedHashCode_45 ?_
    obtain ⟨u0, hu1, hB⟩ := gB1_some hB
    refine gw_castA (t := 2) rfl (by decide) hu1 q382 dJ6_vectorizedHashCode_46 ?_
    refine gw_iload_n 1 rfl dJ6_vectorizedHashCode_49 ?_
    refine gw_iload_n 2 rfl dJ6_vectorizedHashCode_50 ?_
    obtain ⟨v3, s2, hv3, hB⟩ := gB2_some hB
    refine gw_callS (y := yJ6_signedHashCode) (lw_S q383 q384 q121 q385) hdS_J6_signedHashCode (As := [vI l3, vR l0, vI l1, vI l2]) (rest := []) (m_J6_signedHashCode _ _ _ _ _ _ _ hv3) (Nat.le_of_ble_eq_true rfl) (Nat.le_of_ble_eq_true rfl) rfl (Nat.le_of_ble_eq_true rfl) dJ6_vectorizedHashCode_51 (gCont_i ?_)
    refine gw_goto (tgt := 157) dJ6_vectorizedHashCode_54 (by decide) ?_
    exact gw_sub [] rfl (w_J6_vectorizedHashCode_157  _ _ hB)
  rw [if_neg hs4] at hB
  by_cases hs5 : l4 = (5 : Int32)
  · rw [if_pos hs5] at hB
    refine gw_tableIn (off := 55) (tgt := 57) (by rw [hs5]; decide) (by rw [hs5]; decide) (by rw [hs5]; rfl) dJ6_vectorizedHashCode_2 (by decide) ?_
    refine gw_aload_n 0 rfl dJ6_vectorizedHashCode_57 ?_
    cases hB
  rw [if_neg hs5] at hB
  by_cases hs6 : l4 = (6 : Int32)
  · rw [if_pos hs6] at hB
    refine gw_tableIn (off := 127) (tgt := 129) (by rw [hs6]; decide) (by rw [hs6]; decide) (by rw [hs6]; rfl) dJ6_vectorizedHashCode_2 (by decide) ?_
    exact gw_sub [4] rfl (w_J6_vectorizedHashCode_129  _ _ hB)
  rw [if_neg hs6] at hB
  by_cases hs7 : l4 = (7 : Int32)
  · rw [if_pos hs7] at hB
    refine gw_tableIn (off := 127) (tgt := 129) (by rw [hs7]; decide) (by rw [hs7]; decide) (by rw [hs7]; rfl) dJ6_vectorizedHashCode_2 (by decide) ?_
    exact gw_sub [4] rfl (w_J6_vectorizedHashCode_129  _ _ hB)
  rw [if_neg hs7] at hB
  by_cases hs8 : l4 = (8 : Int32)
  · rw [if_pos hs8] at hB
    refine gw_tableIn (off := 88) (tgt := 90) (by rw [hs8]; decide) (by rw [hs8]; decide) (by rw [hs8]; rfl) dJ6_vectorizedHashCode_2 (by decide) ?_
    refine gw_iload_n 3 rfl dJ6_vectorizedHashCode_90 ?_
    refine gw_aload_n 0 rfl dJ6_vectorizedHashCode_91 ?_
    obtain ⟨u0, hu5, hB⟩ := gB1_some hB
    refine gw_castA (t := 2) rfl (by decide) hu5 q382 dJ6_vectorizedHashCode_92 ?_
    refine gw_iload_n 1 rfl dJ6_vectorizedHashCode_95 ?_
    refine gw_iload_n 2 rfl dJ6_vectorizedHashCode_96 ?_
    obtain ⟨v7, s6, hv7, hB⟩ := gB2_some hB
    refine gw_callS (y := yJ6_hashCode_2) (lw_S q417 q418 q121 q419) hdS_J6_hashCode_2 (As := [vI l3, vR l0, vI l1, vI l2]) (rest := []) (m_J6_hashCode_2 _ _ _ _ _ _ _ hv7) (Nat.le_of_ble_eq_true rfl) (Nat.le_of_ble_eq_true rfl) rfl (Nat.le_of_ble_eq_true rfl) dJ6_vectorizedHashCode_97 (gCont_i ?_)
    refine gw_goto (tgt := 157) dJ6_vectorizedHashCode_100 (by decide) ?_
    exact gw_sub [] rfl (w_J6_vectorizedHashCode_157  _ _ hB)
  rw [if_neg hs8] at hB
  by_cases hs9 : l4 = (9 : Int32)
  · rw [if_pos hs9] at hB
    refine gw_tableIn (off := 101) (tgt := 103) (by rw [hs9]; decide) (by rw [hs9]; decide) (by rw [hs9]; rfl) dJ6_vectorizedHashCode_2 (by decide) ?_
    refine gw_iload_n 3 rfl dJ6_vectorizedHashCode_103 ?_
    refine gw_aload_n 0 rfl dJ6_vectorizedHashCode_104 ?_
    cases hB
  rw [if_neg hs9] at hB
  by_cases hs10 : l4 = (10 : Int32)
  · rw [if_pos hs10] at hB
    refine gw_tableIn (off := 114) (tgt := 116) (by rw [hs10]; decide) (by rw [hs10]; decide) (by rw [hs10]; rfl) dJ6_vectorizedHashCode_2 (by decide) ?_
    refine gw_iload_n 3 rfl dJ6_vectorizedHashCode_116 ?_
    refine gw_aload_n 0 rfl dJ6_vectorizedHashCode_117 ?_
    obtain ⟨u0, hu8, hB⟩ := gB1_some hB
    refine gw_castA (t := 0) rfl (by decide) hu8 q424 dJ6_vectorizedHashCode_118 ?_
    refine gw_iload_n 1 rfl dJ6_vectorizedHashCode_121 ?_
    refine gw_iload_n 2 rfl dJ6_vectorizedHashCode_122 ?_
    obtain ⟨v10, s9, hv10, hB⟩ := gB2_some hB
    refine gw_callS (y := yJ6_hashCode_4) (lw_S q425 q426 q121 q427) hdS_J6_hashCode_4 (As := [vI l3, vR l0, vI l1, vI l2]) (rest := []) (m_J6_hashCode_4 _ _ _ _ _ _ _ hv10) (Nat.le_of_ble_eq_true rfl) (Nat.le_of_ble_eq_true rfl) rfl (Nat.le_of_ble_eq_true rfl) dJ6_vectorizedHashCode_123 (gCont_i ?_)
    refine gw_goto (tgt := 157) dJ6_vectorizedHashCode_126 (by decide) ?_
    exact gw_sub [] rfl (w_J6_vectorizedHashCode_157  _ _ hB)
  rw [if_neg hs10] at hB
  have ht4 : l4.toInt ≠ 4 := fun e => hs4 (Int32.toInt_inj.mp (e.trans (by decide)))
  have ht5 : l4.toInt ≠ 5 := fun e => hs5 (Int32.toInt_inj.mp (e.trans (by decide)))
  have ht6 : l4.toInt ≠ 6 := fun e => hs6 (Int32.toInt_inj.mp (e.trans (by decide)))
  have ht7 : l4.toInt ≠ 7 := fun e => hs7 (Int32.toInt_inj.mp (e.trans (by decide)))
  have ht8 : l4.toInt ≠ 8 := fun e => hs8 (Int32.toInt_inj.mp (e.trans (by decide)))
  have ht9 : l4.toInt ≠ 9 := fun e => hs9 (Int32.toInt_inj.mp (e.trans (by decide)))
  have ht10 : l4.toInt ≠ 10 := fun e => hs10 (Int32.toInt_inj.mp (e.trans (by decide)))
  refine gw_tableOut (tgt := 129) (by omega) dJ6_vectorizedHashCode_2 (by decide) ?_
  exact gw_sub [4] rfl (w_J6_vectorizedHashCode_129  _ _ hB)
noncomputable def f_J6_vectorizedHashCode (κ : gK) (F : Nat) (a1 : Option Nat) (a2 : Int32) (a3 : Int32) (a4 : Int32) (a5 : Int32) (s : gS) : Option (Int32 × gS) := f_J6_vectorizedHashCode_0 κ F a1 a2 a3 a4 a5 s
theorem m_J6_vectorizedHashCode {E : gE} {F : Nat} (a1 : Option Nat) (a2 : Int32) (a3 : Int32) (a4 : Int32) (a5 : Int32) (s : gS) (r : Int32) (s' : gS) (h : f_J6_vectorizedHashCode (gk E) F a1 a2 a3 a4 a5 s = some (r, s')) : gCT E 2 yJ6_vectorizedHashCode (ws_ yJ6_vectorizedHashCode cJ6_vectorizedHashCode 5 (some FieldType.int)) [vR a1, vI a2, vI a3, vI a4, vI a5] s (.inl (some (vI r))) s' := by
  refine gCT_of2 (fun h => absurd h (by decide)) (plainFor_of_name (by decide)) (Nat.le_of_ble_eq_true rfl) ?_
  exact gw_sub [0, 1, 2, 3, 4] rfl (w_J6_vectorizedHashCode_0 _ _ _ _ _ _ h)
def dkwJ5_hashCode_2 : List UInt8 := [3, 167, 0, 22, 42, 3, 51, 17, 0, 255, 126, 167, 0, 12, 42, 3, 42, 190, 3, 7, 184, 0, 84, 172]
abbrev dktJ5_hashCode_2 : List UInt8 := dkwJ5_hashCode_2 ++ []
def dkwJ5_hashCode_1 : List UInt8 := [171, 0, 0, 0, 0, 40, 0, 0, 0, 2, 0, 0, 0, 0, 0, 0, 0, 26, 0, 0, 0, 1, 0, 0, 0, 30]
abbrev dktJ5_hashCode_1 : List UInt8 := dkwJ5_hashCode_1 ++ dktJ5_hashCode_2
def dkwJ5_hashCode_0 : List UInt8 := [42, 190]
abbrev dktJ5_hashCode_0 : List UInt8 := dkwJ5_hashCode_0 ++ dktJ5_hashCode_1
theorem dksJ5_hashCode_0 : cJ5_hashCode.data.toList.drop 0 = dktJ5_hashCode_0 := by decide +kernel
theorem dksJ5_hashCode_1 : cJ5_hashCode.data.toList.drop 2 = dktJ5_hashCode_1 := dk_seg dksJ5_hashCode_0 2 rfl rfl
theorem dksJ5_hashCode_2 : cJ5_hashCode.data.toList.drop 28 = dktJ5_hashCode_2 := dk_seg dksJ5_hashCode_1 26 rfl rfl
theorem dJ5_hashCode_0 : decode cJ5_hashCode 0 = .ok (.aload_n 0, 1) := dk_42 (dk_at dksJ5_hashCode_0 0 rfl rfl)
theorem dJ5_hashCode_1 : decode cJ5_hashCode 1 = .ok (.arraylength, 1) := dk_190 (dk_at dksJ5_hashCode_0 1 rfl rfl)
theorem dJ5_hashCode_2 : decode cJ5_hashCode 2 = .ok (.lookupswitch 40 #[(0, 26), (1, 30)], 26) := by decide +kernel
theorem dJ5_hashCode_28 : decode cJ5_hashCode 28 = .ok (.iconst 0, 1) := dk_3 (dk_at dksJ5_hashCode_2 0 rfl rfl)
theorem dJ5_hashCode_29 : decode cJ5_hashCode 29 = .ok (.goto 22, 3) := dk_167 0 22 (dk_at dksJ5_hashCode_2 1 rfl rfl)
theorem dJ5_hashCode_32 : decode cJ5_hashCode 32 = .ok (.aload_n 0, 1) := dk_42 (dk_at dksJ5_hashCode_2 4 rfl rfl)
theorem dJ5_hashCode_33 : decode cJ5_hashCode 33 = .ok (.iconst 0, 1) := dk_3 (dk_at dksJ5_hashCode_2 5 rfl rfl)
theorem dJ5_hashCode_34 : decode cJ5_hashCode 34 = .ok (.baload, 1) := dk_51 (dk_at dksJ5_hashCode_2 6 rfl rfl)
theorem dJ5_hashCode_35 : decode cJ5_hashCode 35 = .ok (.sipush 255, 3) := dk_17 0 255 (dk_at dksJ5_hashCode_2 7 rfl rfl)
theorem dJ5_hashCode_38 : decode cJ5_hashCode 38 = .ok (.iand, 1) := dk_126 (dk_at dksJ5_hashCode_2 10 rfl rfl)
theorem dJ5_hashCode_39 : decode cJ5_hashCode 39 = .ok (.goto 12, 3) := dk_167 0 12 (dk_at dksJ5_hashCode_2 11 rfl rfl)
theorem dJ5_hashCode_42 : decode cJ5_hashCode 42 = .ok (.aload_n 0, 1) := dk_42 (dk_at dksJ5_hashCode_2 14 rfl rfl)
theorem dJ5_hashCode_43 : decode cJ5_hashCode 43 = .ok (.iconst 0, 1) := dk_3 (dk_at dksJ5_hashCode_2 15 rfl rfl)
theorem dJ5_hashCode_44 : decode cJ5_hashCode 44 = .ok (.aload_n 0, 1) := dk_42 (dk_at dksJ5_hashCode_2 16 rfl rfl)
theorem dJ5_hashCode_45 : decode cJ5_hashCode 45 = .ok (.arraylength, 1) := dk_190 (dk_at dksJ5_hashCode_2 17 rfl rfl)
theorem dJ5_hashCode_46 : decode cJ5_hashCode 46 = .ok (.iconst 0, 1) := dk_3 (dk_at dksJ5_hashCode_2 18 rfl rfl)
theorem dJ5_hashCode_47 : decode cJ5_hashCode 47 = .ok (.iconst 4, 1) := dk_7 (dk_at dksJ5_hashCode_2 19 rfl rfl)
theorem dJ5_hashCode_48 : decode cJ5_hashCode 48 = .ok (.invokestatic 84, 3) := dk_184 0 84 (dk_at dksJ5_hashCode_2 20 rfl rfl)
theorem dJ5_hashCode_51 : decode cJ5_hashCode 51 = .ok (.ireturn, 1) := dk_172 (dk_at dksJ5_hashCode_2 23 rfl rfl)
/-! java/lang/StringLatin1.hashCode([B)I -/
abbrev M_J5_hashCode (z0 n0 : Nat) (s' : gS) : gM := (RJ5, cJ5_hashCode, 1, (some FieldType.int), "hashCode", [], 3, z0, n0, s'.2.1, s'.2.2)
abbrev W_J5_hashCode (E : gE) (z0 n0 : Nat) (r : Int32) (s' : gS) (pc : Nat) (L : List (Nat × gV)) (st : List gV) (s : gS) : Prop := gW E (M_J5_hashCode z0 n0 s') (gQm E (M_J5_hashCode z0 n0 s') (.inl (some (vI r))) s') pc L st s
noncomputable def f_J5_hashCode_51 (κ : gK) (F : Nat)  (t0 : Int32) (s : gS) : Option (Int32 × gS) :=
  some (t0, s)
set_option maxHeartbeats 4000000 in
theorem w_J5_hashCode_51 {E : gE} {F z0 n0 : Nat} {r : Int32} {s' : gS}   : ∀  (t0 : Int32) (s : gS), f_J5_hashCode_51 (gk E) F  t0 s = some (r, s') → W_J5_hashCode E z0 n0 r s' 51 [] [vI t0] s := by
  intro t0 s hB
  unfold f_J5_hashCode_51 at hB
  obtain ⟨rfl, rfl⟩ := Prod.mk.inj (Option.some.inj hB)
  exact gw_iret rfl rfl rfl dJ5_hashCode_51
noncomputable def f_J5_hashCode_0 (κ : gK) (F : Nat)  (l0 : Option Nat) (s : gS) : Option (Int32 × gS) :=
  gB1 (gal s l0) fun v1 =>
  if v1 = (0 : Int32) then
    f_J5_hashCode_51 κ F  (0 : Int32) s
  else
  if v1 = (1 : Int32) then
    gB1 (gaI s l0 2 (0 : Int32)) fun v2 =>
    f_J5_hashCode_51 κ F  (v2 &&& (255 : Int32)) s
  else
  gB1 (gal s l0) fun v3 =>
  gB2 (f_J6_vectorizedHashCode κ F l0 (0 : Int32) v3 (0 : Int32) (4 : Int32) s) fun v5 s4 =>
  f_J5_hashCode_51 κ F  v5 s4
set_option maxHeartbeats 4000000 in
theorem w_J5_hashCode_0 {E : gE} {F z0 n0 : Nat} {r : Int32} {s' : gS}   : ∀ (l0 : Option Nat)  (s : gS), f_J5_hashCode_0 (gk E) F  l0 s = some (r, s') → W_J5_hashCode E z0 n0 r s' 0 [(0, vR l0)] [] s := by
  intro l0 s hB
  unfold f_J5_hashCode_0 at hB
  refine gw_aload_n 0 rfl dJ5_hashCode_0 ?_
  obtain ⟨v1, hv1, hB⟩ := gB1_some hB
  refine gw_alen hv1 dJ5_hashCode_1 ?_
  by_cases hs0 : v1 = (0 : Int32)
  · rw [if_pos hs0] at hB
    refine gw_lookup (off := 26) (tgt := 28) (by decide) (by rw [hs0]; decide) dJ5_hashCode_2 (by decide) ?_
    refine gw_iconst (v := (0 : Int32)) (by decide) dJ5_hashCode_28 ?_
    refine gw_goto (tgt := 51) dJ5_hashCode_29 (by decide) ?_
    exact gw_sub [] rfl (w_J5_hashCode_51  _ _ hB)
  rw [if_neg hs0] at hB
  by_cases hs1 : v1 = (1 : Int32)
  · rw [if_pos hs1] at hB
    refine gw_lookup (off := 30) (tgt := 32) (by decide) (by rw [hs1]; decide) dJ5_hashCode_2 (by decide) ?_
    refine gw_aload_n 0 rfl dJ5_hashCode_32 ?_
    refine gw_iconst (v := (0 : Int32)) (by decide) dJ5_hashCode_33 ?_
    obtain ⟨v2, hv2, hB⟩ := gB1_some hB
    refine gw_baload hv2 dJ5_hashCode_34 ?_
    refine gw_sipush (v := (255 : Int32)) (by decide) dJ5_hashCode_35 ?_
    refine gw_iand dJ5_hashCode_38 ?_
    refine gw_goto (tgt := 51) dJ5_hashCode_39 (by decide) ?_
    exact gw_sub [] rfl (w_J5_hashCode_51  _ _ hB)
  rw [if_neg hs1] at hB
  refine gw_lookup (off := 40) (tgt := 42) (by decide) ((lv_osw hs0 (by decide)).trans ((lv_osw hs1 (by decide)).trans rfl)) dJ5_hashCode_2 (by decide) ?_
  refine gw_aload_n 0 rfl dJ5_hashCode_42 ?_
  refine gw_iconst (v := (0 : Int32)) (by decide) dJ5_hashCode_43 ?_
  refine gw_aload_n 0 rfl dJ5_hashCode_44 ?_
  obtain ⟨v3, hv3, hB⟩ := gB1_some hB
  refine gw_alen hv3 dJ5_hashCode_45 ?_
  refine gw_iconst (v := (0 : Int32)) (by decide) dJ5_hashCode_46 ?_
  refine gw_iconst (v := (4 : Int32)) (by decide) dJ5_hashCode_47 ?_
  obtain ⟨v5, s4, hv5, hB⟩ := gB2_some hB
  refine gw_callS (y := yJ6_vectorizedHashCode) (lw_S q379 q380 q121 q381) hdS_J6_vectorizedHashCode (As := [vR l0, vI (0 : Int32), vI v3, vI (0 : Int32), vI (4 : Int32)]) (rest := []) (m_J6_vectorizedHashCode _ _ _ _ _ _ _ _ hv5) (Nat.le_of_ble_eq_true rfl) (Nat.le_of_ble_eq_true rfl) rfl (Nat.le_of_ble_eq_true rfl) dJ5_hashCode_48 (gCont_i ?_)
  exact gw_sub [] rfl (w_J5_hashCode_51  _ _ hB)
noncomputable def f_J5_hashCode (κ : gK) (F : Nat) (a1 : Option Nat) (s : gS) : Option (Int32 × gS) := f_J5_hashCode_0 κ F a1 s
theorem m_J5_hashCode {E : gE} {F : Nat} (a1 : Option Nat) (s : gS) (r : Int32) (s' : gS) (h : f_J5_hashCode (gk E) F a1 s = some (r, s')) : gCT E 3 yJ5_hashCode (ws_ yJ5_hashCode cJ5_hashCode 1 (some FieldType.int)) [vR a1] s (.inl (some (vI r))) s' := by
  refine gCT_of2 (fun h => absurd h (by decide)) (plainFor_of_name (by decide)) (Nat.le_of_ble_eq_true rfl) ?_
  exact gw_sub [0] rfl (w_J5_hashCode_0 _ _ h)
def dkwJ4_hashCode_2 : List UInt8 := [181, 0, 23, 167, 0, 8, 42, 27, 181, 0, 19, 27, 172]
abbrev dktJ4_hashCode_2 : List UInt8 := dkwJ4_hashCode_2 ++ []
def dkwJ4_hashCode_1 : List UInt8 := [180, 0, 9, 184, 2, 116, 167, 0, 10, 42, 180, 0, 9, 184, 2, 120, 60, 27, 154, 0, 11, 42, 4]
abbrev dktJ4_hashCode_1 : List UInt8 := dkwJ4_hashCode_1 ++ dktJ4_hashCode_2
def dkwJ4_hashCode_0 : List UInt8 := [42, 180, 0, 19, 60, 27, 154, 0, 52, 42, 180, 0, 23, 154, 0, 45, 42, 182, 1, 236, 153, 0, 13, 42]
abbrev dktJ4_hashCode_0 : List UInt8 := dkwJ4_hashCode_0 ++ dktJ4_hashCode_1
theorem dksJ4_hashCode_0 : cJ4_hashCode.data.toList.drop 0 = dktJ4_hashCode_0 := by decide +kernel
theorem dksJ4_hashCode_1 : cJ4_hashCode.data.toList.drop 24 = dktJ4_hashCode_1 := dk_seg dksJ4_hashCode_0 24 rfl rfl
theorem dksJ4_hashCode_2 : cJ4_hashCode.data.toList.drop 47 = dktJ4_hashCode_2 := dk_seg dksJ4_hashCode_1 23 rfl rfl
theorem dJ4_hashCode_0 : decode cJ4_hashCode 0 = .ok (.aload_n 0, 1) := dk_42 (dk_at dksJ4_hashCode_0 0 rfl rfl)
theorem dJ4_hashCode_1 : decode cJ4_hashCode 1 = .ok (.getfield 19, 3) := dk_180 0 19 (dk_at dksJ4_hashCode_0 1 rfl rfl)
theorem dJ4_hashCode_4 : decode cJ4_hashCode 4 = .ok (.istore_n 1, 1) := dk_60 (dk_at dksJ4_hashCode_0 4 rfl rfl)
theorem dJ4_hashCode_5 : decode cJ4_hashCode 5 = .ok (.iload_n 1, 1) := dk_27 (dk_at dksJ4_hashCode_0 5 rfl rfl)
theorem dJ4_hashCode_6 : decode cJ4_hashCode 6 = .ok (.ifCond .ne 52, 3) := dk_154 0 52 (dk_at dksJ4_hashCode_0 6 rfl rfl)
theorem dJ4_hashCode_9 : decode cJ4_hashCode 9 = .ok (.aload_n 0, 1) := dk_42 (dk_at dksJ4_hashCode_0 9 rfl rfl)
theorem dJ4_hashCode_10 : decode cJ4_hashCode 10 = .ok (.getfield 23, 3) := dk_180 0 23 (dk_at dksJ4_hashCode_0 10 rfl rfl)
theorem dJ4_hashCode_13 : decode cJ4_hashCode 13 = .ok (.ifCond .ne 45, 3) := dk_154 0 45 (dk_at dksJ4_hashCode_0 13 rfl rfl)
theorem dJ4_hashCode_16 : decode cJ4_hashCode 16 = .ok (.aload_n 0, 1) := dk_42 (dk_at dksJ4_hashCode_0 16 rfl rfl)
theorem dJ4_hashCode_17 : decode cJ4_hashCode 17 = .ok (.invokevirtual 492, 3) := dk_182 1 236 (dk_at dksJ4_hashCode_0 17 rfl rfl)
theorem dJ4_hashCode_20 : decode cJ4_hashCode 20 = .ok (.ifCond .eq 13, 3) := dk_153 0 13 (dk_at dksJ4_hashCode_0 20 rfl rfl)
theorem dJ4_hashCode_23 : decode cJ4_hashCode 23 = .ok (.aload_n 0, 1) := dk_42 (dk_at dksJ4_hashCode_0 23 rfl rfl)
theorem dJ4_hashCode_24 : decode cJ4_hashCode 24 = .ok (.getfield 9, 3) := dk_180 0 9 (dk_at dksJ4_hashCode_1 0 rfl rfl)
theorem dJ4_hashCode_27 : decode cJ4_hashCode 27 = .ok (.invokestatic 628, 3) := dk_184 2 116 (dk_at dksJ4_hashCode_1 3 rfl rfl)
theorem dJ4_hashCode_30 : decode cJ4_hashCode 30 = .ok (.goto 10, 3) := dk_167 0 10 (dk_at dksJ4_hashCode_1 6 rfl rfl)
theorem dJ4_hashCode_33 : decode cJ4_hashCode 33 = .ok (.aload_n 0, 1) := dk_42 (dk_at dksJ4_hashCode_1 9 rfl rfl)
theorem dJ4_hashCode_34 : decode cJ4_hashCode 34 = .ok (.getfield 9, 3) := dk_180 0 9 (dk_at dksJ4_hashCode_1 10 rfl rfl)
theorem dJ4_hashCode_37 : decode cJ4_hashCode 37 = .ok (.invokestatic 632, 3) := dk_184 2 120 (dk_at dksJ4_hashCode_1 13 rfl rfl)
theorem dJ4_hashCode_40 : decode cJ4_hashCode 40 = .ok (.istore_n 1, 1) := dk_60 (dk_at dksJ4_hashCode_1 16 rfl rfl)
theorem dJ4_hashCode_41 : decode cJ4_hashCode 41 = .ok (.iload_n 1, 1) := dk_27 (dk_at dksJ4_hashCode_1 17 rfl rfl)
theorem dJ4_hashCode_42 : decode cJ4_hashCode 42 = .ok (.ifCond .ne 11, 3) := dk_154 0 11 (dk_at dksJ4_hashCode_1 18 rfl rfl)
theorem dJ4_hashCode_45 : decode cJ4_hashCode 45 = .ok (.aload_n 0, 1) := dk_42 (dk_at dksJ4_hashCode_1 21 rfl rfl)
theorem dJ4_hashCode_46 : decode cJ4_hashCode 46 = .ok (.iconst 1, 1) := dk_4 (dk_at dksJ4_hashCode_1 22 rfl rfl)
theorem dJ4_hashCode_47 : decode cJ4_hashCode 47 = .ok (.putfield 23, 3) := dk_181 0 23 (dk_at dksJ4_hashCode_2 0 rfl rfl)
theorem dJ4_hashCode_50 : decode cJ4_hashCode 50 = .ok (.goto 8, 3) := dk_167 0 8 (dk_at dksJ4_hashCode_2 3 rfl rfl)
theorem dJ4_hashCode_53 : decode cJ4_hashCode 53 = .ok (.aload_n 0, 1) := dk_42 (dk_at dksJ4_hashCode_2 6 rfl rfl)
theorem dJ4_hashCode_54 : decode cJ4_hashCode 54 = .ok (.iload_n 1, 1) := dk_27 (dk_at dksJ4_hashCode_2 7 rfl rfl)
theorem dJ4_hashCode_55 : decode cJ4_hashCode 55 = .ok (.putfield 19, 3) := dk_181 0 19 (dk_at dksJ4_hashCode_2 8 rfl rfl)
theorem dJ4_hashCode_58 : decode cJ4_hashCode 58 = .ok (.iload_n 1, 1) := dk_27 (dk_at dksJ4_hashCode_2 11 rfl rfl)
theorem dJ4_hashCode_59 : decode cJ4_hashCode 59 = .ok (.ireturn, 1) := dk_172 (dk_at dksJ4_hashCode_2 12 rfl rfl)
/-! java/lang/String.hashCode()I -/
abbrev M_J4_hashCode (z0 n0 : Nat) (s' : gS) : gM := (RJ4, cJ4_hashCode, 2, (some FieldType.int), "hashCode", [], 4, z0, n0, s'.2.1, s'.2.2)
abbrev W_J4_hashCode (E : gE) (z0 n0 : Nat) (r : Int32) (s' : gS) (pc : Nat) (L : List (Nat × gV)) (st : List gV) (s : gS) : Prop := gW E (M_J4_hashCode z0 n0 s') (gQm E (M_J4_hashCode z0 n0 s') (.inl (some (vI r))) s') pc L st s
noncomputable def f_J4_hashCode_58 (κ : gK) (F : Nat)  (l1 : Int32) (s : gS) : Option (Int32 × gS) :=
  some (l1, s)
set_option maxHeartbeats 4000000 in
theorem w_J4_hashCode_58 {E : gE} {F z0 n0 : Nat} {r : Int32} {s' : gS}   : ∀ (l1 : Int32)  (s : gS), f_J4_hashCode_58 (gk E) F  l1 s = some (r, s') → W_J4_hashCode E z0 n0 r s' 58 [(1, vI l1)] [] s := by
  intro l1 s hB
  unfold f_J4_hashCode_58 at hB
  refine gw_iload_n 0 rfl dJ4_hashCode_58 ?_
  obtain ⟨rfl, rfl⟩ := Prod.mk.inj (Option.some.inj hB)
  exact gw_iret rfl rfl rfl dJ4_hashCode_59
noncomputable def f_J4_hashCode_40 (κ : gK) (F : Nat)  (l0 : Option Nat) (t0 : Int32) (s : gS) : Option (Int32 × gS) :=
  if t0 = 0 then
    gB1 (gok .boolean (1 : Int32)) fun _ =>
    gB1 (gpf κ s l0 16 3 (.int (1 : Int32))) fun s3 =>
    f_J4_hashCode_58 κ F  t0 s3
  else
    gB1 (gpf κ s l0 16 2 (.int t0)) fun s1 =>
    f_J4_hashCode_58 κ F  t0 s1
set_option maxHeartbeats 4000000 in
theorem w_J4_hashCode_40 {E : gE} {F z0 n0 : Nat} {r : Int32} {s' : gS}   : ∀ (l0 : Option Nat) (t0 : Int32) (s : gS), f_J4_hashCode_40 (gk E) F  l0 t0 s = some (r, s') → W_J4_hashCode E z0 n0 r s' 40 [(0, vR l0)] [vI t0] s := by
  intro l0 t0 s hB
  unfold f_J4_hashCode_40 at hB
  refine gw_istore_n (L' := [(1, vI t0), (0, vR l0)]) (Nat.le_of_ble_eq_true rfl) rfl dJ4_hashCode_40 ?_
  refine gw_iload_n 0 rfl dJ4_hashCode_41 ?_
  refine gw_if_ne (tgt := 53) dJ4_hashCode_42 (by decide) (fun hcnd => ?_) (fun hcnd => ?_)
  · rw [if_neg hcnd] at hB
    refine gw_aload_n 1 rfl dJ4_hashCode_53 ?_
    refine gw_iload_n 0 rfl dJ4_hashCode_54 ?_
    obtain ⟨s1, hs1, hB⟩ := gB1_some hB
    refine gw_putf (C := RJ4) (T := TJ4) (N := 4) (k := 2) tyJ4 tyJ4_ok nmJ4 gcl16 (by decide) in_J4 q733 rfl (tyJ4_ok 2 (by decide)) (gNF_i _) hs1 dJ4_hashCode_55 ?_
    exact gw_sub [0] rfl (w_J4_hashCode_58  _ _ hB)
  · rw [if_pos hcnd] at hB
    refine gw_aload_n 1 rfl dJ4_hashCode_45 ?_
    refine gw_iconst (v := (1 : Int32)) (by decide) dJ4_hashCode_46 ?_
    obtain ⟨u0, hu2, hB⟩ := gB1_some hB
    obtain ⟨s3, hs3, hB⟩ := gB1_some hB
    refine gw_putf (C := RJ4) (T := TJ4) (N := 4) (k := 3) tyJ4 tyJ4_ok nmJ4 gcl16 (by decide) in_J4 q734 rfl (tyJ4_ok 3 (by decide)) (gok_spec hu2) hs3 dJ4_hashCode_47 ?_
    refine gw_goto (tgt := 58) dJ4_hashCode_50 (by decide) ?_
    exact gw_sub [0] rfl (w_J4_hashCode_58  _ _ hB)
noncomputable def f_J4_hashCode_0 (κ : gK) (F : Nat)  (l0 : Option Nat) (s : gS) : Option (Int32 × gS) :=
  gB1 (gfI s l0 16 2) fun v1 =>
  if v1 = 0 then
    gB1 (gfI s l0 16 3) fun v2 =>
    if v2 = 0 then
      gB1 (gck s l0 16) fun _ =>
      gB2 (f_J4_isLatin1 κ F l0  s) fun v4 s3 =>
      if v4 = 0 then
        gB1 (gfR s3 l0 16 0) fun v6 =>
        none
      else
        gB1 (gfR s3 l0 16 0) fun v7 =>
        gB2 (f_J5_hashCode κ F v7 s3) fun v9 s8 =>
        f_J4_hashCode_40 κ F  l0 v9 s8
    else
      f_J4_hashCode_58 κ F  v1 s
  else
    f_J4_hashCode_58 κ F  v1 s
set_option maxHeartbeats 4000000 in
theorem w_J4_hashCode_0 {E : gE} {F z0 n0 : Nat} {r : Int32} {s' : gS}   : ∀ (l0 : Option Nat)  (s : gS), f_J4_hashCode_0 (gk E) F  l0 s = some (r, s') → W_J4_hashCode E z0 n0 r s' 0 [(0, vR l0)] [] s := by
  intro l0 s hB
  unfold f_J4_hashCode_0 at hB
  refine gw_aload_n 0 rfl dJ4_hashCode_0 ?_
  obtain ⟨v1, hv1, hB⟩ := gB1_some hB
  refine gw_getf (C := RJ4) (T := TJ4) (N := 4) (k := 2) gcl16 (by decide) in_J4 q733 (gfI_spec hv1) dJ4_hashCode_1 ?_
  refine gw_istore_n (L' := [(1, vI v1), (0, vR l0)]) (Nat.le_of_ble_eq_true rfl) rfl dJ4_hashCode_4 ?_
  refine gw_iload_n 0 rfl dJ4_hashCode_5 ?_
  refine gw_if_ne (tgt := 58) dJ4_hashCode_6 (by decide) (fun hcnd => ?_) (fun hcnd => ?_)
  · rw [if_neg hcnd] at hB
    exact gw_sub [0] rfl (w_J4_hashCode_58  _ _ hB)
  · rw [if_pos hcnd] at hB
    refine gw_aload_n 1 rfl dJ4_hashCode_9 ?_
    obtain ⟨v2, hv2, hB⟩ := gB1_some hB
    refine gw_getf (C := RJ4) (T := TJ4) (N := 4) (k := 3) gcl16 (by decide) in_J4 q734 (gfI_spec hv2) dJ4_hashCode_10 ?_
    refine gw_if_ne (tgt := 58) dJ4_hashCode_13 (by decide) (fun hcnd => ?_) (fun hcnd => ?_)
    · rw [if_neg hcnd] at hB
      exact gw_sub [0] rfl (w_J4_hashCode_58  _ _ hB)
    · rw [if_pos hcnd] at hB
      refine gw_aload_n 1 rfl dJ4_hashCode_16 ?_
      obtain ⟨u0, hu5, hB⟩ := gB1_some hB
      obtain ⟨v4, s3, hv4, hB⟩ := gB2_some hB
      refine gw_callV (y := yJ4_isLatin1) (lw_V q370 q371 q372 q119 q373) hdV_J4_isLatin1 gcl16 hu5 (As := []) (rest := []) (m_J4_isLatin1 _ _ _ _ hv4) (Nat.le_of_ble_eq_true rfl) (Nat.le_of_ble_eq_true rfl) rfl (Nat.le_of_ble_eq_true rfl) dJ4_hashCode_17 (gCont_i ?_)
      refine gw_if_eq (tgt := 33) dJ4_hashCode_20 (by decide) (fun hcnd => ?_) (fun hcnd => ?_)
      · rw [if_pos hcnd] at hB
        refine gw_aload_n 1 rfl dJ4_hashCode_33 ?_
        obtain ⟨v6, hv6, hB⟩ := gB1_some hB
        refine gw_getf (C := RJ4) (T := TJ4) (N := 4) (k := 0) gcl16 (by decide) in_J4 q731 (gfR_spec hv6) dJ4_hashCode_34 ?_
        cases hB
      · rw [if_neg hcnd] at hB
        refine gw_aload_n 1 rfl dJ4_hashCode_23 ?_
        obtain ⟨v7, hv7, hB⟩ := gB1_some hB
        refine gw_getf (C := RJ4) (T := TJ4) (N := 4) (k := 0) gcl16 (by decide) in_J4 q731 (gfR_spec hv7) dJ4_hashCode_24 ?_
        obtain ⟨v9, s8, hv9, hB⟩ := gB2_some hB
        refine gw_callS (y := yJ5_hashCode) (lw_S q376 q377 q120 q378) hdS_J5_hashCode (As := [vR v7]) (rest := []) (m_J5_hashCode _ _ _ _ hv9) (Nat.le_of_ble_eq_true rfl) (Nat.le_of_ble_eq_true rfl) rfl (Nat.le_of_ble_eq_true rfl) dJ4_hashCode_27 (gCont_i ?_)
        refine gw_goto (tgt := 40) dJ4_hashCode_30 (by decide) ?_
        exact gw_sub [1] rfl (w_J4_hashCode_40  _ _ _ hB)
noncomputable def f_J4_hashCode (κ : gK) (F : Nat) (a0 : Option Nat) (s : gS) : Option (Int32 × gS) := f_J4_hashCode_0 κ F a0 s
theorem m_J4_hashCode {E : gE} {F : Nat} (a0 : Option Nat) (s : gS) (r : Int32) (s' : gS) (h : f_J4_hashCode (gk E) F a0 s = some (r, s')) : gCT E 4 yJ4_hashCode (ws_ yJ4_hashCode cJ4_hashCode 2 (some FieldType.int)) [vR a0] s (.inl (some (vI r))) s' := by
  refine gCT_of2 (fun h => absurd h (by decide)) (plainFor_of_name (by decide)) (Nat.le_of_ble_eq_true rfl) ?_
  exact gw_sub [0] rfl (w_J4_hashCode_0 _ _ h)
def dkwJ5_equals_1 : List UInt8 := [3, 172, 132, 2, 1, 167, 255, 236, 4, 172, 3, 172]
abbrev dktJ5_equals_1 : List UInt8 := dkwJ5_equals_1 ++ []
def dkwJ5_equals_0 : List UInt8 := [42, 190, 43, 190, 160, 0, 30, 3, 61, 28, 42, 190, 162, 0, 20, 42, 28, 51, 43, 28, 51, 159, 0, 5]
abbrev dktJ5_equals_0 : List UInt8 := dkwJ5_equals_0 ++ dktJ5_equals_1
theorem dksJ5_equals_0 : cJ5_equals.data.toList.drop 0 = dktJ5_equals_0 := by decide +kernel
theorem dksJ5_equals_1 : cJ5_equals.data.toList.drop 24 = dktJ5_equals_1 := dk_seg dksJ5_equals_0 24 rfl rfl
theorem dJ5_equals_0 : decode cJ5_equals 0 = .ok (.aload_n 0, 1) := dk_42 (dk_at dksJ5_equals_0 0 rfl rfl)
theorem dJ5_equals_1 : decode cJ5_equals 1 = .ok (.arraylength, 1) := dk_190 (dk_at dksJ5_equals_0 1 rfl rfl)
theorem dJ5_equals_2 : decode cJ5_equals 2 = .ok (.aload_n 1, 1) := dk_43 (dk_at dksJ5_equals_0 2 rfl rfl)
theorem dJ5_equals_3 : decode cJ5_equals 3 = .ok (.arraylength, 1) := dk_190 (dk_at dksJ5_equals_0 3 rfl rfl)
theorem dJ5_equals_4 : decode cJ5_equals 4 = .ok (.if_icmp .ne 30, 3) := dk_160 0 30 (dk_at dksJ5_equals_0 4 rfl rfl)
theorem dJ5_equals_7 : decode cJ5_equals 7 = .ok (.iconst 0, 1) := dk_3 (dk_at dksJ5_equals_0 7 rfl rfl)
theorem dJ5_equals_8 : decode cJ5_equals 8 = .ok (.istore_n 2, 1) := dk_61 (dk_at dksJ5_equals_0 8 rfl rfl)
theorem dJ5_equals_9 : decode cJ5_equals 9 = .ok (.iload_n 2, 1) := dk_28 (dk_at dksJ5_equals_0 9 rfl rfl)
theorem dJ5_equals_10 : decode cJ5_equals 10 = .ok (.aload_n 0, 1) := dk_42 (dk_at dksJ5_equals_0 10 rfl rfl)
theorem dJ5_equals_11 : decode cJ5_equals 11 = .ok (.arraylength, 1) := dk_190 (dk_at dksJ5_equals_0 11 rfl rfl)
theorem dJ5_equals_12 : decode cJ5_equals 12 = .ok (.if_icmp .ge 20, 3) := dk_162 0 20 (dk_at dksJ5_equals_0 12 rfl rfl)
theorem dJ5_equals_15 : decode cJ5_equals 15 = .ok (.aload_n 0, 1) := dk_42 (dk_at dksJ5_equals_0 15 rfl rfl)
theorem dJ5_equals_16 : decode cJ5_equals 16 = .ok (.iload_n 2, 1) := dk_28 (dk_at dksJ5_equals_0 16 rfl rfl)
theorem dJ5_equals_17 : decode cJ5_equals 17 = .ok (.baload, 1) := dk_51 (dk_at dksJ5_equals_0 17 rfl rfl)
theorem dJ5_equals_18 : decode cJ5_equals 18 = .ok (.aload_n 1, 1) := dk_43 (dk_at dksJ5_equals_0 18 rfl rfl)
theorem dJ5_equals_19 : decode cJ5_equals 19 = .ok (.iload_n 2, 1) := dk_28 (dk_at dksJ5_equals_0 19 rfl rfl)
theorem dJ5_equals_20 : decode cJ5_equals 20 = .ok (.baload, 1) := dk_51 (dk_at dksJ5_equals_0 20 rfl rfl)
theorem dJ5_equals_21 : decode cJ5_equals 21 = .ok (.if_icmp .eq 5, 3) := dk_159 0 5 (dk_at dksJ5_equals_0 21 rfl rfl)
theorem dJ5_equals_24 : decode cJ5_equals 24 = .ok (.iconst 0, 1) := dk_3 (dk_at dksJ5_equals_1 0 rfl rfl)
theorem dJ5_equals_25 : decode cJ5_equals 25 = .ok (.ireturn, 1) := dk_172 (dk_at dksJ5_equals_1 1 rfl rfl)
theorem dJ5_equals_26 : decode cJ5_equals 26 = .ok (.iinc 2 1, 3) := dk_132 2 1 (dk_at dksJ5_equals_1 2 rfl rfl)
theorem dJ5_equals_29 : decode cJ5_equals 29 = .ok (.goto (-20), 3) := dk_167 255 236 (dk_at dksJ5_equals_1 5 rfl rfl)
theorem dJ5_equals_32 : decode cJ5_equals 32 = .ok (.iconst 1, 1) := dk_4 (dk_at dksJ5_equals_1 8 rfl rfl)
theorem dJ5_equals_33 : decode cJ5_equals 33 = .ok (.ireturn, 1) := dk_172 (dk_at dksJ5_equals_1 9 rfl rfl)
theorem dJ5_equals_34 : decode cJ5_equals 34 = .ok (.iconst 0, 1) := dk_3 (dk_at dksJ5_equals_1 10 rfl rfl)
theorem dJ5_equals_35 : decode cJ5_equals 35 = .ok (.ireturn, 1) := dk_172 (dk_at dksJ5_equals_1 11 rfl rfl)
/-! java/lang/StringLatin1.equals([B[B)Z -/
abbrev M_J5_equals (z0 n0 : Nat) (s' : gS) : gM := (RJ5, cJ5_equals, 3, (some FieldType.boolean), "equals", [], 1, z0, n0, s'.2.1, s'.2.2)
abbrev W_J5_equals (E : gE) (z0 n0 : Nat) (r : Int32) (s' : gS) (pc : Nat) (L : List (Nat × gV)) (st : List gV) (s : gS) : Prop := gW E (M_J5_equals z0 n0 s') (gQm E (M_J5_equals z0 n0 s') (.inl (some (vI r))) s') pc L st s
noncomputable def f_J5_equals_9b (κ : gK) (F : Nat) (k9 : Option Nat → Option Nat → Int32 → gS → Option (Int32 × gS)) (l0 : Option Nat) (l1 : Option Nat) (l2 : Int32) (s : gS) : Option (Int32 × gS) :=
  gB1 (gal s l0) fun v1 =>
  if v1 ≤ l2 then
    gB1 (gok .boolean (1 : Int32)) fun _ => some ((1 : Int32), s)
  else
    gB1 (gaI s l0 2 l2) fun v2 =>
    gB1 (gaI s l1 2 l2) fun v3 =>
    if v2 = v3 then
      k9 l0 l1 (l2 + (1 : Int32)) s
    else
      gB1 (gok .boolean (0 : Int32)) fun _ => some ((0 : Int32), s)
noncomputable def f_J5_equals_9 (κ : gK) (F : Nat)  : Nat → Option Nat → Option Nat → Int32 → gS → Option (Int32 × gS)
  | 0 => fun _ _ _ _ => none
  | n + 1 => f_J5_equals_9b κ F  (f_J5_equals_9 κ F  n)
set_option maxHeartbeats 4000000 in
theorem w_J5_equals_9b {E : gE} {F z0 n0 : Nat} {r : Int32} {s' : gS} {k9 : Option Nat → Option Nat → Int32 → gS → Option (Int32 × gS)} (hk9 : ∀ (l0 : Option Nat) (l1 : Option Nat) (l2 : Int32) (s : gS), k9 l0 l1 l2 s = some (r, s') → W_J5_equals E z0 n0 r s' 9 [(0, vR l0), (1, vR l1), (2, vI l2)] [] s) : ∀ (l0 : Option Nat) (l1 : Option Nat) (l2 : Int32)  (s : gS), f_J5_equals_9b (gk E) F k9 l0 l1 l2 s = some (r, s') → W_J5_equals E z0 n0 r s' 9 [(0, vR l0), (1, vR l1), (2, vI l2)] [] s := by
  intro l0 l1 l2 s hB
  unfold f_J5_equals_9b at hB
  refine gw_iload_n 2 rfl dJ5_equals_9 ?_
  refine gw_aload_n 0 rfl dJ5_equals_10 ?_
  obtain ⟨v1, hv1, hB⟩ := gB1_some hB
  refine gw_alen hv1 dJ5_equals_11 ?_
  refine gw_icmp_ge (tgt := 32) dJ5_equals_12 (by decide) (fun hcnd => ?_) (fun hcnd => ?_)
  · rw [if_pos hcnd] at hB
    refine gw_iconst (v := (1 : Int32)) (by decide) dJ5_equals_32 ?_
    obtain ⟨u, hu, hB⟩ := gB1_some hB
    obtain ⟨rfl, rfl⟩ := Prod.mk.inj (Option.some.inj hB)
    exact gw_zret rfl hu rfl rfl dJ5_equals_33
  · rw [if_neg hcnd] at hB
    refine gw_aload_n 0 rfl dJ5_equals_15 ?_
    refine gw_iload_n 2 rfl dJ5_equals_16 ?_
    obtain ⟨v2, hv2, hB⟩ := gB1_some hB
    refine gw_baload hv2 dJ5_equals_17 ?_
    refine gw_aload_n 1 rfl dJ5_equals_18 ?_
    refine gw_iload_n 2 rfl dJ5_equals_19 ?_
    obtain ⟨v3, hv3, hB⟩ := gB1_some hB
    refine gw_baload hv3 dJ5_equals_20 ?_
    refine gw_icmp_eq (tgt := 26) dJ5_equals_21 (by decide) (fun hcnd => ?_) (fun hcnd => ?_)
    · rw [if_pos hcnd] at hB
      refine gw_iinc (w := (1 : Int32)) (L' := [(2, vI (l2 + (1 : Int32))), (0, vR l0), (1, vR l1)]) 2 rfl (by decide) (Nat.le_of_ble_eq_true rfl) rfl dJ5_equals_26 ?_
      refine gw_goto (tgt := 9) dJ5_equals_29 (by decide) ?_
      exact gw_sub [1, 2, 0] rfl (hk9 _ _ _ _ hB)
    · rw [if_neg hcnd] at hB
      refine gw_iconst (v := (0 : Int32)) (by decide) dJ5_equals_24 ?_
      obtain ⟨u, hu, hB⟩ := gB1_some hB
      obtain ⟨rfl, rfl⟩ := Prod.mk.inj (Option.some.inj hB)
      exact gw_zret rfl hu rfl rfl dJ5_equals_25
theorem w_J5_equals_9 {E : gE} {F z0 n0 : Nat} {r : Int32} {s' : gS}   : ∀ (n : Nat) (l0 : Option Nat) (l1 : Option Nat) (l2 : Int32)  (s : gS), f_J5_equals_9 (gk E) F  n l0 l1 l2 s = some (r, s') → W_J5_equals E z0 n0 r s' 9 [(0, vR l0), (1, vR l1), (2, vI l2)] [] s := by
  intro n
  induction n with
  | zero => intro l0 l1 l2 s hB; cases hB
  | succ n ih => intro l0 l1 l2 s hB; exact w_J5_equals_9b ih l0 l1 l2 s hB
noncomputable def f_J5_equals_0 (κ : gK) (F : Nat)  (l0 : Option Nat) (l1 : Option Nat) (s : gS) : Option (Int32 × gS) :=
  gB1 (gal s l0) fun v1 =>
  gB1 (gal s l1) fun v2 =>
  if v1 = v2 then
    f_J5_equals_9 κ F  F l0 l1 (0 : Int32) s
  else
    gB1 (gok .boolean (0 : Int32)) fun _ => some ((0 : Int32), s)
set_option maxHeartbeats 4000000 in
theorem w_J5_equals_0 {E : gE} {F z0 n0 : Nat} {r : Int32} {s' : gS}   : ∀ (l0 : Option Nat) (l1 : Option Nat)  (s : gS), f_J5_equals_0 (gk E) F  l0 l1 s = some (r, s') → W_J5_equals E z0 n0 r s' 0 [(0, vR l0), (1, vR l1)] [] s := by
  intro l0 l1 s hB
  unfold f_J5_equals_0 at hB
  refine gw_aload_n 0 rfl dJ5_equals_0 ?_
  obtain ⟨v1, hv1, hB⟩ := gB1_some hB
  refine gw_alen hv1 dJ5_equals_1 ?_
  refine gw_aload_n 1 rfl dJ5_equals_2 ?_
  obtain ⟨v2, hv2, hB⟩ := gB1_some hB
  refine gw_alen hv2 dJ5_equals_3 ?_
  refine gw_icmp_ne (tgt := 34) dJ5_equals_4 (by decide) (fun hcnd => ?_) (fun hcnd => ?_)
  · rw [if_neg hcnd] at hB
    refine gw_iconst (v := (0 : Int32)) (by decide) dJ5_equals_34 ?_
    obtain ⟨u, hu, hB⟩ := gB1_some hB
    obtain ⟨rfl, rfl⟩ := Prod.mk.inj (Option.some.inj hB)
    exact gw_zret rfl hu rfl rfl dJ5_equals_35
  · rw [if_pos hcnd] at hB
    refine gw_iconst (v := (0 : Int32)) (by decide) dJ5_equals_7 ?_
    refine gw_istore_n (L' := [(2, vI (0 : Int32)), (0, vR l0), (1, vR l1)]) (Nat.le_of_ble_eq_true rfl) rfl dJ5_equals_8 ?_
    exact gw_sub [1, 2, 0] rfl (w_J5_equals_9  F _ _ _ _ hB)
noncomputable def f_J5_equals (κ : gK) (F : Nat) (a1 : Option Nat) (a2 : Option Nat) (s : gS) : Option (Int32 × gS) := f_J5_equals_0 κ F a1 a2 s
theorem m_J5_equals {E : gE} {F : Nat} (a1 : Option Nat) (a2 : Option Nat) (s : gS) (r : Int32) (s' : gS) (h : f_J5_equals (gk E) F a1 a2 s = some (r, s')) : gCT E 1 yJ5_equals (ws_ yJ5_equals cJ5_equals 3 (some FieldType.boolean)) [vR a1, vR a2] s (.inl (some (vI r))) s' := by
  refine gCT_of2 (fun h => absurd h (by decide)) (plainFor_of_name (by decide)) (Nat.le_of_ble_eq_true rfl) ?_
  exact gw_sub [0, 1] rfl (w_J5_equals_0 _ _ _ h)
def dkwJ4_equals_2 : List UInt8 := [184, 2, 29, 153, 0, 7, 4, 167, 0, 4, 3, 172]
abbrev dktJ4_equals_2 : List UInt8 := dkwJ4_equals_2 ++ []
def dkwJ4_equals_1 : List UInt8 := [153, 0, 14, 42, 180, 0, 15, 44, 180, 0, 15, 160, 0, 21, 42, 180, 0, 9, 44, 180, 0, 9]
abbrev dktJ4_equals_1 : List UInt8 := dkwJ4_equals_1 ++ dktJ4_equals_2
def dkwJ4_equals_0 : List UInt8 := [42, 43, 166, 0, 5, 4, 172, 43, 193, 0, 10, 153, 0, 43, 43, 192, 0, 10, 77, 178, 0, 38]
abbrev dktJ4_equals_0 : List UInt8 := dkwJ4_equals_0 ++ dktJ4_equals_1
theorem dksJ4_equals_0 : cJ4_equals.data.toList.drop 0 = dktJ4_equals_0 := by decide +kernel
theorem dksJ4_equals_1 : cJ4_equals.data.toList.drop 22 = dktJ4_equals_1 := dk_seg dksJ4_equals_0 22 rfl rfl
theorem dksJ4_equals_2 : cJ4_equals.data.toList.drop 44 = dktJ4_equals_2 := dk_seg dksJ4_equals_1 22 rfl rfl
theorem dJ4_equals_0 : decode cJ4_equals 0 = .ok (.aload_n 0, 1) := dk_42 (dk_at dksJ4_equals_0 0 rfl rfl)
theorem dJ4_equals_1 : decode cJ4_equals 1 = .ok (.aload_n 1, 1) := dk_43 (dk_at dksJ4_equals_0 1 rfl rfl)
theorem dJ4_equals_2 : decode cJ4_equals 2 = .ok (.if_acmp .ne 5, 3) := dk_166 0 5 (dk_at dksJ4_equals_0 2 rfl rfl)
theorem dJ4_equals_5 : decode cJ4_equals 5 = .ok (.iconst 1, 1) := dk_4 (dk_at dksJ4_equals_0 5 rfl rfl)
theorem dJ4_equals_6 : decode cJ4_equals 6 = .ok (.ireturn, 1) := dk_172 (dk_at dksJ4_equals_0 6 rfl rfl)
theorem dJ4_equals_7 : decode cJ4_equals 7 = .ok (.aload_n 1, 1) := dk_43 (dk_at dksJ4_equals_0 7 rfl rfl)
theorem dJ4_equals_8 : decode cJ4_equals 8 = .ok (.instanceof 10, 3) := dk_193 0 10 (dk_at dksJ4_equals_0 8 rfl rfl)
theorem dJ4_equals_11 : decode cJ4_equals 11 = .ok (.ifCond .eq 43, 3) := dk_153 0 43 (dk_at dksJ4_equals_0 11 rfl rfl)
theorem dJ4_equals_14 : decode cJ4_equals 14 = .ok (.aload_n 1, 1) := dk_43 (dk_at dksJ4_equals_0 14 rfl rfl)
theorem dJ4_equals_15 : decode cJ4_equals 15 = .ok (.checkcast 10, 3) := dk_192 0 10 (dk_at dksJ4_equals_0 15 rfl rfl)
theorem dJ4_equals_18 : decode cJ4_equals 18 = .ok (.astore_n 2, 1) := dk_77 (dk_at dksJ4_equals_0 18 rfl rfl)
theorem dJ4_equals_19 : decode cJ4_equals 19 = .ok (.getstatic 38, 3) := dk_178 0 38 (dk_at dksJ4_equals_0 19 rfl rfl)
theorem dJ4_equals_22 : decode cJ4_equals 22 = .ok (.ifCond .eq 14, 3) := dk_153 0 14 (dk_at dksJ4_equals_1 0 rfl rfl)
theorem dJ4_equals_25 : decode cJ4_equals 25 = .ok (.aload_n 0, 1) := dk_42 (dk_at dksJ4_equals_1 3 rfl rfl)
theorem dJ4_equals_26 : decode cJ4_equals 26 = .ok (.getfield 15, 3) := dk_180 0 15 (dk_at dksJ4_equals_1 4 rfl rfl)
theorem dJ4_equals_29 : decode cJ4_equals 29 = .ok (.aload_n 2, 1) := dk_44 (dk_at dksJ4_equals_1 7 rfl rfl)
theorem dJ4_equals_30 : decode cJ4_equals 30 = .ok (.getfield 15, 3) := dk_180 0 15 (dk_at dksJ4_equals_1 8 rfl rfl)
theorem dJ4_equals_33 : decode cJ4_equals 33 = .ok (.if_icmp .ne 21, 3) := dk_160 0 21 (dk_at dksJ4_equals_1 11 rfl rfl)
theorem dJ4_equals_36 : decode cJ4_equals 36 = .ok (.aload_n 0, 1) := dk_42 (dk_at dksJ4_equals_1 14 rfl rfl)
theorem dJ4_equals_37 : decode cJ4_equals 37 = .ok (.getfield 9, 3) := dk_180 0 9 (dk_at dksJ4_equals_1 15 rfl rfl)
theorem dJ4_equals_40 : decode cJ4_equals 40 = .ok (.aload_n 2, 1) := dk_44 (dk_at dksJ4_equals_1 18 rfl rfl)
theorem dJ4_equals_41 : decode cJ4_equals 41 = .ok (.getfield 9, 3) := dk_180 0 9 (dk_at dksJ4_equals_1 19 rfl rfl)
theorem dJ4_equals_44 : decode cJ4_equals 44 = .ok (.invokestatic 541, 3) := dk_184 2 29 (dk_at dksJ4_equals_2 0 rfl rfl)
theorem dJ4_equals_47 : decode cJ4_equals 47 = .ok (.ifCond .eq 7, 3) := dk_153 0 7 (dk_at dksJ4_equals_2 3 rfl rfl)
theorem dJ4_equals_50 : decode cJ4_equals 50 = .ok (.iconst 1, 1) := dk_4 (dk_at dksJ4_equals_2 6 rfl rfl)
theorem dJ4_equals_51 : decode cJ4_equals 51 = .ok (.goto 4, 3) := dk_167 0 4 (dk_at dksJ4_equals_2 7 rfl rfl)
theorem dJ4_equals_54 : decode cJ4_equals 54 = .ok (.iconst 0, 1) := dk_3 (dk_at dksJ4_equals_2 10 rfl rfl)
theorem dJ4_equals_55 : decode cJ4_equals 55 = .ok (.ireturn, 1) := dk_172 (dk_at dksJ4_equals_2 11 rfl rfl)
/-! java/lang/String.equals(Ljava/lang/Object;)Z -/
abbrev M_J4_equals (z0 n0 : Nat) (s' : gS) : gM := (RJ4, cJ4_equals, 3, (some FieldType.boolean), "equals", [], 2, z0, n0, s'.2.1, s'.2.2)
abbrev W_J4_equals (E : gE) (z0 n0 : Nat) (r : Int32) (s' : gS) (pc : Nat) (L : List (Nat × gV)) (st : List gV) (s : gS) : Prop := gW E (M_J4_equals z0 n0 s') (gQm E (M_J4_equals z0 n0 s') (.inl (some (vI r))) s') pc L st s
noncomputable def f_J4_equals_55 (κ : gK) (F : Nat)  (t0 : Int32) (s : gS) : Option (Int32 × gS) :=
  gB1 (gok .boolean t0) fun _ => some (t0, s)
set_option maxHeartbeats 4000000 in
theorem w_J4_equals_55 {E : gE} {F z0 n0 : Nat} {r : Int32} {s' : gS}   : ∀  (t0 : Int32) (s : gS), f_J4_equals_55 (gk E) F  t0 s = some (r, s') → W_J4_equals E z0 n0 r s' 55 [] [vI t0] s := by
  intro t0 s hB
  unfold f_J4_equals_55 at hB
  obtain ⟨u, hu, hB⟩ := gB1_some hB
  obtain ⟨rfl, rfl⟩ := Prod.mk.inj (Option.some.inj hB)
  exact gw_zret rfl hu rfl rfl dJ4_equals_55
noncomputable def f_J4_equals_54 (κ : gK) (F : Nat)   (s : gS) : Option (Int32 × gS) :=
  f_J4_equals_55 κ F  (0 : Int32) s
set_option maxHeartbeats 4000000 in
theorem w_J4_equals_54 {E : gE} {F z0 n0 : Nat} {r : Int32} {s' : gS}   : ∀   (s : gS), f_J4_equals_54 (gk E) F   s = some (r, s') → W_J4_equals E z0 n0 r s' 54 [] [] s := by
  intro  s hB
  unfold f_J4_equals_54 at hB
  refine gw_iconst (v := (0 : Int32)) (by decide) dJ4_equals_54 ?_
  exact gw_sub [] rfl (w_J4_equals_55  _ _ hB)
noncomputable def f_J4_equals_36 (κ : gK) (F : Nat)  (l0 : Option Nat) (l2 : Option Nat) (s : gS) : Option (Int32 × gS) :=
  gB1 (gfR s l0 16 0) fun v1 =>
  gB1 (gfR s l2 16 0) fun v2 =>
  gB2 (f_J5_equals κ F v1 v2 s) fun v4 s3 =>
  if v4 = 0 then
    f_J4_equals_54 κ F  s3
  else
    f_J4_equals_55 κ F  (1 : Int32) s3
set_option maxHeartbeats 4000000 in
theorem w_J4_equals_36 {E : gE} {F z0 n0 : Nat} {r : Int32} {s' : gS}   : ∀ (l0 : Option Nat) (l2 : Option Nat)  (s : gS), f_J4_equals_36 (gk E) F  l0 l2 s = some (r, s') → W_J4_equals E z0 n0 r s' 36 [(0, vR l0), (2, vR l2)] [] s := by
  intro l0 l2 s hB
  unfold f_J4_equals_36 at hB
  refine gw_aload_n 0 rfl dJ4_equals_36 ?_
  obtain ⟨v1, hv1, hB⟩ := gB1_some hB
  refine gw_getf (C := RJ4) (T := TJ4) (N := 4) (k := 0) gcl16 (by decide) in_J4 q731 (gfR_spec hv1) dJ4_equals_37 ?_
  refine gw_aload_n 1 rfl dJ4_equals_40 ?_
  obtain ⟨v2, hv2, hB⟩ := gB1_some hB
  refine gw_getf (C := RJ4) (T := TJ4) (N := 4) (k := 0) gcl16 (by decide) in_J4 q731 (gfR_spec hv2) dJ4_equals_41 ?_
  obtain ⟨v4, s3, hv4, hB⟩ := gB2_some hB
  refine gw_callS (y := yJ5_equals) (lw_S q1156 q1157 q120 q1158) hdS_J5_equals (As := [vR v1, vR v2]) (rest := []) (m_J5_equals _ _ _ _ _ hv4) (Nat.le_of_ble_eq_true rfl) (Nat.le_of_ble_eq_true rfl) rfl (Nat.le_of_ble_eq_true rfl) dJ4_equals_44 (gCont_i ?_)
  refine gw_if_eq (tgt := 54) dJ4_equals_47 (by decide) (fun hcnd => ?_) (fun hcnd => ?_)
  · rw [if_pos hcnd] at hB
    exact gw_sub [] rfl (w_J4_equals_54   _ hB)
  · rw [if_neg hcnd] at hB
    refine gw_iconst (v := (1 : Int32)) (by decide) dJ4_equals_50 ?_
    refine gw_goto (tgt := 55) dJ4_equals_51 (by decide) ?_
    exact gw_sub [] rfl (w_J4_equals_55  _ _ hB)
noncomputable def f_J4_equals_0 (κ : gK) (F : Nat)  (l0 : Option Nat) (l1 : Option Nat) (s : gS) : Option (Int32 × gS) :=
  if l0 = l1 then
    gB1 (gok .boolean (1 : Int32)) fun _ => some ((1 : Int32), s)
  else
    gB1 (gio s l1 [16] []) fun v1 =>
    if v1 = 0 then
      f_J4_equals_54 κ F  s
    else
      gB1 (gcc s l1 16) fun _ =>
      if (1 : Int32) = 0 then
        f_J4_equals_36 κ F  l0 l1 s
      else
        gB1 (gfI s l0 16 1) fun v3 =>
        gB1 (gfI s l1 16 1) fun v4 =>
        if v3 = v4 then
          f_J4_equals_36 κ F  l0 l1 s
        else
          f_J4_equals_54 κ F  s
set_option maxHeartbeats 4000000 in
theorem w_J4_equals_0 {E : gE} {F z0 n0 : Nat} {r : Int32} {s' : gS}   : ∀ (l0 : Option Nat) (l1 : Option Nat)  (s : gS), f_J4_equals_0 (gk E) F  l0 l1 s = some (r, s') → W_J4_equals E z0 n0 r s' 0 [(0, vR l0), (1, vR l1)] [] s := by
  intro l0 l1 s hB
  unfold f_J4_equals_0 at hB
  refine gw_aload_n 0 rfl dJ4_equals_0 ?_
  refine gw_aload_n 1 rfl dJ4_equals_1 ?_
  refine gw_acmp_ne (tgt := 7) dJ4_equals_2 (by decide) (fun hcnd => ?_) (fun hcnd => ?_)
  · rw [if_neg hcnd] at hB
    refine gw_aload_n 1 rfl dJ4_equals_7 ?_
    obtain ⟨v1, hv1, hB⟩ := gB1_some hB
    refine gw_inst (ys := [16]) (ns := []) gisY_java_lang_String gisN_java_lang_String hv1 q928 dJ4_equals_8 ?_
    refine gw_if_eq (tgt := 54) dJ4_equals_11 (by decide) (fun hcnd => ?_) (fun hcnd => ?_)
    · rw [if_pos hcnd] at hB
      exact gw_sub [] rfl (w_J4_equals_54   _ hB)
    · rw [if_neg hcnd] at hB
      refine gw_aload_n 1 rfl dJ4_equals_14 ?_
      obtain ⟨u0, hu2, hB⟩ := gB1_some hB
      refine gw_cast (C := RJ4) gcl16 hu2 q928 (Or.inl rfl) dJ4_equals_15 ?_
      refine gw_astore_n (L' := [(2, vR l1), (0, vR l0), (1, vR l1)]) (Nat.le_of_ble_eq_true rfl) rfl dJ4_equals_18 ?_
      refine gw_getsi (v := (1 : Int32)) (by decide) q374 dJ4_equals_19 ?_
      refine gw_if_eq (tgt := 36) dJ4_equals_22 (by decide) (fun hcnd => ?_) (fun hcnd => ?_)
      · rw [if_pos hcnd] at hB
        exact gw_sub [1, 0] rfl (w_J4_equals_36  _ _ _ hB)
      · rw [if_neg hcnd] at hB
        refine gw_aload_n 1 rfl dJ4_equals_25 ?_
        obtain ⟨v3, hv3, hB⟩ := gB1_some hB
        refine gw_getf (C := RJ4) (T := TJ4) (N := 4) (k := 1) gcl16 (by decide) in_J4 q732 (gfI_spec hv3) dJ4_equals_26 ?_
        refine gw_aload_n 0 rfl dJ4_equals_29 ?_
        obtain ⟨v4, hv4, hB⟩ := gB1_some hB
        refine gw_getf (C := RJ4) (T := TJ4) (N := 4) (k := 1) gcl16 (by decide) in_J4 q732 (gfI_spec hv4) dJ4_equals_30 ?_
        refine gw_icmp_ne (tgt := 54) dJ4_equals_33 (by decide) (fun hcnd => ?_) (fun hcnd => ?_)
        · rw [if_neg hcnd] at hB
          exact gw_sub [] rfl (w_J4_equals_54   _ hB)
        · rw [if_pos hcnd] at hB
          exact gw_sub [1, 0] rfl (w_J4_equals_36  _ _ _ hB)
  · rw [if_pos hcnd] at hB
    refine gw_iconst (v := (1 : Int32)) (by decide) dJ4_equals_5 ?_
    obtain ⟨u, hu, hB⟩ := gB1_some hB
    obtain ⟨rfl, rfl⟩ := Prod.mk.inj (Option.some.inj hB)
    exact gw_zret rfl hu rfl rfl dJ4_equals_6
noncomputable def f_J4_equals (κ : gK) (F : Nat) (a0 : Option Nat) (a1 : Option Nat) (s : gS) : Option (Int32 × gS) := f_J4_equals_0 κ F a0 a1 s
theorem m_J4_equals {E : gE} {F : Nat} (a0 : Option Nat) (a1 : Option Nat) (s : gS) (r : Int32) (s' : gS) (h : f_J4_equals (gk E) F a0 a1 s = some (r, s')) : gCT E 2 yJ4_equals (ws_ yJ4_equals cJ4_equals 3 (some FieldType.boolean)) [vR a0, vR a1] s (.inl (some (vI r))) s' := by
  refine gCT_of2 (fun h => absurd h (by decide)) (plainFor_of_name (by decide)) (Nat.le_of_ble_eq_true rfl) ?_
  exact gw_sub [0, 1] rfl (w_J4_equals_0 _ _ _ h)
def dkwX1_numbersOf_8 : List UInt8 := [5, 167, 0, 14, 4, 167, 0, 10, 3, 167, 0, 6, 17, 252, 24, 172]
abbrev dktX1_numbersOf_8 : List UInt8 := dkwX1_numbersOf_8 ++ []
def dkwX1_numbersOf_7 : List UInt8 := [170, 0, 0, 0, 0, 0, 55, 0, 0, 0, 0, 0, 0, 0, 6, 0, 0, 0, 43, 0, 0, 0, 47, 0, 0, 0, 47, 0, 0, 0, 47, 0, 0, 0, 51, 0, 0, 0, 51, 0, 0, 0, 51]
abbrev dktX1_numbersOf_7 : List UInt8 := dkwX1_numbersOf_7 ++ dktX1_numbersOf_8
def dkwX1_numbersOf_6 : List UInt8 := [61, 28]
abbrev dktX1_numbersOf_6 : List UInt8 := dkwX1_numbersOf_6 ++ dktX1_numbersOf_7
def dkwX1_numbersOf_5 : List UInt8 := [18, 33, 182, 0, 21, 153, 0, 20, 8, 61, 167, 0, 15, 43, 18, 35, 182, 0, 21, 153, 0, 6, 16, 6]
abbrev dktX1_numbersOf_5 : List UInt8 := dkwX1_numbersOf_5 ++ dktX1_numbersOf_6
def dkwX1_numbersOf_4 : List UInt8 := [153, 0, 48, 6, 61, 167, 0, 43, 43, 18, 31, 182, 0, 21, 153, 0, 34, 7, 61, 167, 0, 29, 43]
abbrev dktX1_numbersOf_4 : List UInt8 := dkwX1_numbersOf_4 ++ dktX1_numbersOf_5
def dkwX1_numbersOf_3 : List UInt8 := [61, 167, 0, 71, 43, 18, 27, 182, 0, 21, 153, 0, 62, 5, 61, 167, 0, 57, 43, 18, 29, 182, 0, 21]
abbrev dktX1_numbersOf_3 : List UInt8 := dkwX1_numbersOf_3 ++ dktX1_numbersOf_4
def dkwX1_numbersOf_2 : List UInt8 := [43, 18, 19, 182, 0, 21, 153, 0, 90, 3, 61, 167, 0, 85, 43, 18, 25, 182, 0, 21, 153, 0, 76, 4]
abbrev dktX1_numbersOf_2 : List UInt8 := dkwX1_numbersOf_2 ++ dktX1_numbersOf_3
def dkwX1_numbersOf_1 : List UInt8 := [171, 0, 0, 0, 0, 0, 0, 164, 0, 0, 0, 7, 175, 63, 41, 55, 0, 0, 0, 96, 0, 1, 179, 15, 0, 0, 0, 68, 0, 47, 46, 239, 0, 0, 0, 82, 0, 52, 38, 74, 0, 0, 0, 152, 5, 133, 35, 48, 0, 0, 0, 138, 5, 148, 120, 169, 0, 0, 0, 124, 5, 165, 221, 248, 0, 0, 0, 110]
abbrev dktX1_numbersOf_1 : List UInt8 := dkwX1_numbersOf_1 ++ dktX1_numbersOf_2
def dkwX1_numbersOf_0 : List UInt8 := [42, 76, 2, 61, 43, 182, 0, 13]
abbrev dktX1_numbersOf_0 : List UInt8 := dkwX1_numbersOf_0 ++ dktX1_numbersOf_1
theorem dksX1_numbersOf_0 : cX1_numbersOf.data.toList.drop 0 = dktX1_numbersOf_0 := by decide +kernel
theorem dksX1_numbersOf_1 : cX1_numbersOf.data.toList.drop 8 = dktX1_numbersOf_1 := dk_seg dksX1_numbersOf_0 8 rfl rfl
theorem dksX1_numbersOf_2 : cX1_numbersOf.data.toList.drop 76 = dktX1_numbersOf_2 := dk_seg dksX1_numbersOf_1 68 rfl rfl
theorem dksX1_numbersOf_3 : cX1_numbersOf.data.toList.drop 100 = dktX1_numbersOf_3 := dk_seg dksX1_numbersOf_2 24 rfl rfl
theorem dksX1_numbersOf_4 : cX1_numbersOf.data.toList.drop 124 = dktX1_numbersOf_4 := dk_seg dksX1_numbersOf_3 24 rfl rfl
theorem dksX1_numbersOf_5 : cX1_numbersOf.data.toList.drop 147 = dktX1_numbersOf_5 := dk_seg dksX1_numbersOf_4 23 rfl rfl
theorem dksX1_numbersOf_6 : cX1_numbersOf.data.toList.drop 171 = dktX1_numbersOf_6 := dk_seg dksX1_numbersOf_5 24 rfl rfl
theorem dksX1_numbersOf_7 : cX1_numbersOf.data.toList.drop 173 = dktX1_numbersOf_7 := dk_seg dksX1_numbersOf_6 2 rfl rfl
theorem dksX1_numbersOf_8 : cX1_numbersOf.data.toList.drop 216 = dktX1_numbersOf_8 := dk_seg dksX1_numbersOf_7 43 rfl rfl
theorem dX1_numbersOf_0 : decode cX1_numbersOf 0 = .ok (.aload_n 0, 1) := dk_42 (dk_at dksX1_numbersOf_0 0 rfl rfl)
theorem dX1_numbersOf_1 : decode cX1_numbersOf 1 = .ok (.astore_n 1, 1) := dk_76 (dk_at dksX1_numbersOf_0 1 rfl rfl)
theorem dX1_numbersOf_2 : decode cX1_numbersOf 2 = .ok (.iconst (-1), 1) := dk_2 (dk_at dksX1_numbersOf_0 2 rfl rfl)
theorem dX1_numbersOf_3 : decode cX1_numbersOf 3 = .ok (.istore_n 2, 1) := dk_61 (dk_at dksX1_numbersOf_0 3 rfl rfl)
theorem dX1_numbersOf_4 : decode cX1_numbersOf 4 = .ok (.aload_n 1, 1) := dk_43 (dk_at dksX1_numbersOf_0 4 rfl rfl)
theorem dX1_numbersOf_5 : decode cX1_numbersOf 5 = .ok (.invokevirtual 13, 3) := dk_182 0 13 (dk_at dksX1_numbersOf_0 5 rfl rfl)
theorem dX1_numbersOf_8 : decode cX1_numbersOf 8 = .ok (.lookupswitch 164 #[(-1354815177, 96), (111375, 68), (3092207, 82), (3417674, 152), (92611376, 138), (93616297, 124), (94756344, 110)], 68) := by decide +kernel
theorem dX1_numbersOf_76 : decode cX1_numbersOf 76 = .ok (.aload_n 1, 1) := dk_43 (dk_at dksX1_numbersOf_2 0 rfl rfl)
theorem dX1_numbersOf_77 : decode cX1_numbersOf 77 = .ok (.ldc 19, 2) := dk_18 19 (dk_at dksX1_numbersOf_2 1 rfl rfl)
theorem dX1_numbersOf_79 : decode cX1_numbersOf 79 = .ok (.invokevirtual 21, 3) := dk_182 0 21 (dk_at dksX1_numbersOf_2 3 rfl rfl)
theorem dX1_numbersOf_82 : decode cX1_numbersOf 82 = .ok (.ifCond .eq 90, 3) := dk_153 0 90 (dk_at dksX1_numbersOf_2 6 rfl rfl)
theorem dX1_numbersOf_85 : decode cX1_numbersOf 85 = .ok (.iconst 0, 1) := dk_3 (dk_at dksX1_numbersOf_2 9 rfl rfl)
theorem dX1_numbersOf_86 : decode cX1_numbersOf 86 = .ok (.istore_n 2, 1) := dk_61 (dk_at dksX1_numbersOf_2 10 rfl rfl)
theorem dX1_numbersOf_87 : decode cX1_numbersOf 87 = .ok (.goto 85, 3) := dk_167 0 85 (dk_at dksX1_numbersOf_2 11 rfl rfl)
theorem dX1_numbersOf_90 : decode cX1_numbersOf 90 = .ok (.aload_n 1, 1) := dk_43 (dk_at dksX1_numbersOf_2 14 rfl rfl)
theorem dX1_numbersOf_91 : decode cX1_numbersOf 91 = .ok (.ldc 25, 2) := dk_18 25 (dk_at dksX1_numbersOf_2 15 rfl rfl)
theorem dX1_numbersOf_93 : decode cX1_numbersOf 93 = .ok (.invokevirtual 21, 3) := dk_182 0 21 (dk_at dksX1_numbersOf_2 17 rfl rfl)
theorem dX1_numbersOf_96 : decode cX1_numbersOf 96 = .ok (.ifCond .eq 76, 3) := dk_153 0 76 (dk_at dksX1_numbersOf_2 20 rfl rfl)
theorem dX1_numbersOf_99 : decode cX1_numbersOf 99 = .ok (.iconst 1, 1) := dk_4 (dk_at dksX1_numbersOf_2 23 rfl rfl)
theorem dX1_numbersOf_100 : decode cX1_numbersOf 100 = .ok (.istore_n 2, 1) := dk_61 (dk_at dksX1_numbersOf_3 0 rfl rfl)
theorem dX1_numbersOf_101 : decode cX1_numbersOf 101 = .ok (.goto 71, 3) := dk_167 0 71 (dk_at dksX1_numbersOf_3 1 rfl rfl)
theorem dX1_numbersOf_104 : decode cX1_numbersOf 104 = .ok (.aload_n 1, 1) := dk_43 (dk_at dksX1_numbersOf_3 4 rfl rfl)
theorem dX1_numbersOf_105 : decode cX1_numbersOf 105 = .ok (.ldc 27, 2) := dk_18 27 (dk_at dksX1_numbersOf_3 5 rfl rfl)
theorem dX1_numbersOf_107 : decode cX1_numbersOf 107 = .ok (.invokevirtual 21, 3) := dk_182 0 21 (dk_at dksX1_numbersOf_3 7 rfl rfl)
theorem dX1_numbersOf_110 : decode cX1_numbersOf 110 = .ok (.ifCond .eq 62, 3) := dk_153 0 62 (dk_at dksX1_numbersOf_3 10 rfl rfl)
theorem dX1_numbersOf_113 : decode cX1_numbersOf 113 = .ok (.iconst 2, 1) := dk_5 (dk_at dksX1_numbersOf_3 13 rfl rfl)
theorem dX1_numbersOf_114 : decode cX1_numbersOf 114 = .ok (.istore_n 2, 1) := dk_61 (dk_at dksX1_numbersOf_3 14 rfl rfl)
theorem dX1_numbersOf_115 : decode cX1_numbersOf 115 = .ok (.goto 57, 3) := dk_167 0 57 (dk_at dksX1_numbersOf_3 15 rfl rfl)
theorem dX1_numbersOf_118 : decode cX1_numbersOf 118 = .ok (.aload_n 1, 1) := dk_43 (dk_at dksX1_numbersOf_3 18 rfl rfl)
theorem dX1_numbersOf_119 : decode cX1_numbersOf 119 = .ok (.ldc 29, 2) := dk_18 29 (dk_at dksX1_numbersOf_3 19 rfl rfl)
theorem dX1_numbersOf_121 : decode cX1_numbersOf 121 = .ok (.invokevirtual 21, 3) := dk_182 0 21 (dk_at dksX1_numbersOf_3 21 rfl rfl)
theorem dX1_numbersOf_124 : decode cX1_numbersOf 124 = .ok (.ifCond .eq 48, 3) := dk_153 0 48 (dk_at dksX1_numbersOf_4 0 rfl rfl)
theorem dX1_numbersOf_127 : decode cX1_numbersOf 127 = .ok (.iconst 3, 1) := dk_6 (dk_at dksX1_numbersOf_4 3 rfl rfl)
theorem dX1_numbersOf_128 : decode cX1_numbersOf 128 = .ok (.istore_n 2, 1) := dk_61 (dk_at dksX1_numbersOf_4 4 rfl rfl)
theorem dX1_numbersOf_129 : decode cX1_numbersOf 129 = .ok (.goto 43, 3) := dk_167 0 43 (dk_at dksX1_numbersOf_4 5 rfl rfl)
theorem dX1_numbersOf_132 : decode cX1_numbersOf 132 = .ok (.aload_n 1, 1) := dk_43 (dk_at dksX1_numbersOf_4 8 rfl rfl)
theorem dX1_numbersOf_133 : decode cX1_numbersOf 133 = .ok (.ldc 31, 2) := dk_18 31 (dk_at dksX1_numbersOf_4 9 rfl rfl)
theorem dX1_numbersOf_135 : decode cX1_numbersOf 135 = .ok (.invokevirtual 21, 3) := dk_182 0 21 (dk_at dksX1_numbersOf_4 11 rfl rfl)
theorem dX1_numbersOf_138 : decode cX1_numbersOf 138 = .ok (.ifCond .eq 34, 3) := dk_153 0 34 (dk_at dksX1_numbersOf_4 14 rfl rfl)
theorem dX1_numbersOf_141 : decode cX1_numbersOf 141 = .ok (.iconst 4, 1) := dk_7 (dk_at dksX1_numbersOf_4 17 rfl rfl)
theorem dX1_numbersOf_142 : decode cX1_numbersOf 142 = .ok (.istore_n 2, 1) := dk_61 (dk_at dksX1_numbersOf_4 18 rfl rfl)
theorem dX1_numbersOf_143 : decode cX1_numbersOf 143 = .ok (.goto 29, 3) := dk_167 0 29 (dk_at dksX1_numbersOf_4 19 rfl rfl)
theorem dX1_numbersOf_146 : decode cX1_numbersOf 146 = .ok (.aload_n 1, 1) := dk_43 (dk_at dksX1_numbersOf_4 22 rfl rfl)
theorem dX1_numbersOf_147 : decode cX1_numbersOf 147 = .ok (.ldc 33, 2) := dk_18 33 (dk_at dksX1_numbersOf_5 0 rfl rfl)
theorem dX1_numbersOf_149 : decode cX1_numbersOf 149 = .ok (.invokevirtual 21, 3) := dk_182 0 21 (dk_at dksX1_numbersOf_5 2 rfl rfl)
theorem dX1_numbersOf_152 : decode cX1_numbersOf 152 = .ok (.ifCond .eq 20, 3) := dk_153 0 20 (dk_at dksX1_numbersOf_5 5 rfl rfl)
theorem dX1_numbersOf_155 : decode cX1_numbersOf 155 = .ok (.iconst 5, 1) := dk_8 (dk_at dksX1_numbersOf_5 8 rfl rfl)
theorem dX1_numbersOf_156 : decode cX1_numbersOf 156 = .ok (.istore_n 2, 1) := dk_61 (dk_at dksX1_numbersOf_5 9 rfl rfl)
theorem dX1_numbersOf_157 : decode cX1_numbersOf 157 = .ok (.goto 15, 3) := dk_167 0 15 (dk_at dksX1_numbersOf_5 10 rfl rfl)
theorem dX1_numbersOf_160 : decode cX1_numbersOf 160 = .ok (.aload_n 1, 1) := dk_43 (dk_at dksX1_numbersOf_5 13 rfl rfl)
theorem dX1_numbersOf_161 : decode cX1_numbersOf 161 = .ok (.ldc 35, 2) := dk_18 35 (dk_at dksX1_numbersOf_5 14 rfl rfl)
theorem dX1_numbersOf_163 : decode cX1_numbersOf 163 = .ok (.invokevirtual 21, 3) := dk_182 0 21 (dk_at dksX1_numbersOf_5 16 rfl rfl)
theorem dX1_numbersOf_166 : decode cX1_numbersOf 166 = .ok (.ifCond .eq 6, 3) := dk_153 0 6 (dk_at dksX1_numbersOf_5 19 rfl rfl)
theorem dX1_numbersOf_169 : decode cX1_numbersOf 169 = .ok (.bipush 6, 2) := dk_16 6 (dk_at dksX1_numbersOf_5 22 rfl rfl)
theorem dX1_numbersOf_171 : decode cX1_numbersOf 171 = .ok (.istore_n 2, 1) := dk_61 (dk_at dksX1_numbersOf_6 0 rfl rfl)
theorem dX1_numbersOf_172 : decode cX1_numbersOf 172 = .ok (.iload_n 2, 1) := dk_28 (dk_at dksX1_numbersOf_6 1 rfl rfl)
theorem dX1_numbersOf_173 : decode cX1_numbersOf 173 = .ok (.tableswitch 55 0 6 #[43, 47, 47, 47, 51, 51, 51], 43) := by decide +kernel
theorem dX1_numbersOf_216 : decode cX1_numbersOf 216 = .ok (.iconst 2, 1) := dk_5 (dk_at dksX1_numbersOf_8 0 rfl rfl)
theorem dX1_numbersOf_217 : decode cX1_numbersOf 217 = .ok (.goto 14, 3) := dk_167 0 14 (dk_at dksX1_numbersOf_8 1 rfl rfl)
theorem dX1_numbersOf_220 : decode cX1_numbersOf 220 = .ok (.iconst 1, 1) := dk_4 (dk_at dksX1_numbersOf_8 4 rfl rfl)
theorem dX1_numbersOf_221 : decode cX1_numbersOf 221 = .ok (.goto 10, 3) := dk_167 0 10 (dk_at dksX1_numbersOf_8 5 rfl rfl)
theorem dX1_numbersOf_224 : decode cX1_numbersOf 224 = .ok (.iconst 0, 1) := dk_3 (dk_at dksX1_numbersOf_8 8 rfl rfl)
theorem dX1_numbersOf_225 : decode cX1_numbersOf 225 = .ok (.goto 6, 3) := dk_167 0 6 (dk_at dksX1_numbersOf_8 9 rfl rfl)
theorem dX1_numbersOf_228 : decode cX1_numbersOf 228 = .ok (.sipush (-1000), 3) := dk_17 252 24 (dk_at dksX1_numbersOf_8 12 rfl rfl)
theorem dX1_numbersOf_231 : decode cX1_numbersOf 231 = .ok (.ireturn, 1) := dk_172 (dk_at dksX1_numbersOf_8 15 rfl rfl)
/-! PageGarden.numbersOf(Ljava/lang/String;)I -/
abbrev M_X1_numbersOf (z0 n0 : Nat) (s' : gS) : gM := (RX1, cX1_numbersOf, 3, (some FieldType.int), "numbersOf", [], 5, z0, n0, s'.2.1, s'.2.2)
abbrev W_X1_numbersOf (E : gE) (z0 n0 : Nat) (r : Int32) (s' : gS) (pc : Nat) (L : List (Nat × gV)) (st : List gV) (s : gS) : Prop := gW E (M_X1_numbersOf z0 n0 s') (gQm E (M_X1_numbersOf z0 n0 s') (.inl (some (vI r))) s') pc L st s
noncomputable def f_X1_numbersOf_231 (κ : gK) (F : Nat)  (t0 : Int32) (s : gS) : Option (Int32 × gS) :=
  some (t0, s)
set_option maxHeartbeats 4000000 in
theorem w_X1_numbersOf_231 {E : gE} {F z0 n0 : Nat} {r : Int32} {s' : gS}   : ∀  (t0 : Int32) (s : gS), f_X1_numbersOf_231 (gk E) F  t0 s = some (r, s') → W_X1_numbersOf E z0 n0 r s' 231 [] [vI t0] s := by
  intro t0 s hB
  unfold f_X1_numbersOf_231 at hB
  obtain ⟨rfl, rfl⟩ := Prod.mk.inj (Option.some.inj hB)
  exact gw_iret rfl rfl rfl dX1_numbersOf_231
noncomputable def f_X1_numbersOf_220 (κ : gK) (F : Nat)   (s : gS) : Option (Int32 × gS) :=
  f_X1_numbersOf_231 κ F  (1 : Int32) s
set_option maxHeartbeats 4000000 in
theorem w_X1_numbersOf_220 {E : gE} {F z0 n0 : Nat} {r : Int32} {s' : gS}   : ∀   (s : gS), f_X1_numbersOf_220 (gk E) F   s = some (r, s') → W_X1_numbersOf E z0 n0 r s' 220 [] [] s := by
  intro  s hB
  unfold f_X1_numbersOf_220 at hB
  refine gw_iconst (v := (1 : Int32)) (by decide) dX1_numbersOf_220 ?_
  refine gw_goto (tgt := 231) dX1_numbersOf_221 (by decide) ?_
  exact gw_sub [] rfl (w_X1_numbersOf_231  _ _ hB)
noncomputable def f_X1_numbersOf_224 (κ : gK) (F : Nat)   (s : gS) : Option (Int32 × gS) :=
  f_X1_numbersOf_231 κ F  (0 : Int32) s
set_option maxHeartbeats 4000000 in
theorem w_X1_numbersOf_224 {E : gE} {F z0 n0 : Nat} {r : Int32} {s' : gS}   : ∀   (s : gS), f_X1_numbersOf_224 (gk E) F   s = some (r, s') → W_X1_numbersOf E z0 n0 r s' 224 [] [] s := by
  intro  s hB
  unfold f_X1_numbersOf_224 at hB
  refine gw_iconst (v := (0 : Int32)) (by decide) dX1_numbersOf_224 ?_
  refine gw_goto (tgt := 231) dX1_numbersOf_225 (by decide) ?_
  exact gw_sub [] rfl (w_X1_numbersOf_231  _ _ hB)
noncomputable def f_X1_numbersOf_172 (κ : gK) (F : Nat)  (l2 : Int32) (s : gS) : Option (Int32 × gS) :=
  if l2 = (0 : Int32) then
    f_X1_numbersOf_231 κ F  (2 : Int32) s
  else
  if l2 = (1 : Int32) then
    f_X1_numbersOf_220 κ F  s
  else
  if l2 = (2 : Int32) then
    f_X1_numbersOf_220 κ F  s
  else
  if l2 = (3 : Int32) then
    f_X1_numbersOf_220 κ F  s
  else
  if l2 = (4 : Int32) then
    f_X1_numbersOf_224 κ F  s
  else
  if l2 = (5 : Int32) then
    f_X1_numbersOf_224 κ F  s
  else
  if l2 = (6 : Int32) then
    f_X1_numbersOf_224 κ F  s
  else
  f_X1_numbersOf_231 κ F  (-1000 : Int32) s
set_option maxHeartbeats 4000000 in
theorem w_X1_numbersOf_172 {E : gE} {F z0 n0 : Nat} {r : Int32} {s' : gS}   : ∀ (l2 : Int32)  (s : gS), f_X1_numbersOf_172 (gk E) F  l2 s = some (r, s') → W_X1_numbersOf E z0 n0 r s' 172 [(2, vI l2)] [] s := by
  intro l2 s hB
  unfold f_X1_numbersOf_172 at hB
  refine gw_iload_n 0 rfl dX1_numbersOf_172 ?_
  by_cases hs0 : l2 = (0 : Int32)
  · rw [if_pos hs0] at hB
    refine gw_tableIn (off := 43) (tgt := 216) (by rw [hs0]; decide) (by rw [hs0]; decide) (by rw [hs0]; rfl) dX1_numbersOf_173 (by decide) ?_
    refine gw_iconst (v := (2 : Int32)) (by decide) dX1_numbersOf_216 ?_
    refine gw_goto (tgt := 231) dX1_numbersOf_217 (by decide) ?_
    exact gw_sub [] rfl (w_X1_numbersOf_231  _ _ hB)
  rw [if_neg hs0] at hB
  by_cases hs1 : l2 = (1 : Int32)
  · rw [if_pos hs1] at hB
    refine gw_tableIn (off := 47) (tgt := 220) (by rw [hs1]; decide) (by rw [hs1]; decide) (by rw [hs1]; rfl) dX1_numbersOf_173 (by decide) ?_
    exact gw_sub [] rfl (w_X1_numbersOf_220   _ hB)
  rw [if_neg hs1] at hB
  by_cases hs2 : l2 = (2 : Int32)
  · rw [if_pos hs2] at hB
    refine gw_tableIn (off := 47) (tgt := 220) (by rw [hs2]; decide) (by rw [hs2]; decide) (by rw [hs2]; rfl) dX1_numbersOf_173 (by decide) ?_
    exact gw_sub [] rfl (w_X1_numbersOf_220   _ hB)
  rw [if_neg hs2] at hB
  by_cases hs3 : l2 = (3 : Int32)
  · rw [if_pos hs3] at hB
    refine gw_tableIn (off := 47) (tgt := 220) (by rw [hs3]; decide) (by rw [hs3]; decide) (by rw [hs3]; rfl) dX1_numbersOf_173 (by decide) ?_
    exact gw_sub [] rfl (w_X1_numbersOf_220   _ hB)
  rw [if_neg hs3] at hB
  by_cases hs4 : l2 = (4 : Int32)
  · rw [if_pos hs4] at hB
    refine gw_tableIn (off := 51) (tgt := 224) (by rw [hs4]; decide) (by rw [hs4]; decide) (by rw [hs4]; rfl) dX1_numbersOf_173 (by decide) ?_
    exact gw_sub [] rfl (w_X1_numbersOf_224   _ hB)
  rw [if_neg hs4] at hB
  by_cases hs5 : l2 = (5 : Int32)
  · rw [if_pos hs5] at hB
    refine gw_tableIn (off := 51) (tgt := 224) (by rw [hs5]; decide) (by rw [hs5]; decide) (by rw [hs5]; rfl) dX1_numbersOf_173 (by decide) ?_
    exact gw_sub [] rfl (w_X1_numbersOf_224   _ hB)
  rw [if_neg hs5] at hB
  by_cases hs6 : l2 = (6 : Int32)
  · rw [if_pos hs6] at hB
    refine gw_tableIn (off := 51) (tgt := 224) (by rw [hs6]; decide) (by rw [hs6]; decide) (by rw [hs6]; rfl) dX1_numbersOf_173 (by decide) ?_
    exact gw_sub [] rfl (w_X1_numbersOf_224   _ hB)
  rw [if_neg hs6] at hB
  have ht0 : l2.toInt ≠ 0 := fun e => hs0 (Int32.toInt_inj.mp (e.trans (by decide)))
  have ht1 : l2.toInt ≠ 1 := fun e => hs1 (Int32.toInt_inj.mp (e.trans (by decide)))
  have ht2 : l2.toInt ≠ 2 := fun e => hs2 (Int32.toInt_inj.mp (e.trans (by decide)))
  have ht3 : l2.toInt ≠ 3 := fun e => hs3 (Int32.toInt_inj.mp (e.trans (by decide)))
  have ht4 : l2.toInt ≠ 4 := fun e => hs4 (Int32.toInt_inj.mp (e.trans (by decide)))
  have ht5 : l2.toInt ≠ 5 := fun e => hs5 (Int32.toInt_inj.mp (e.trans (by decide)))
  have ht6 : l2.toInt ≠ 6 := fun e => hs6 (Int32.toInt_inj.mp (e.trans (by decide)))
  refine gw_tableOut (tgt := 228) (by omega) dX1_numbersOf_173 (by decide) ?_
  refine gw_sipush (v := (-1000 : Int32)) (by decide) dX1_numbersOf_228 ?_
  exact gw_sub [] rfl (w_X1_numbersOf_231  _ _ hB)
noncomputable def f_X1_numbersOf_0 (κ : gK) (F : Nat)  (l0 : Option Nat) (s : gS) : Option (Int32 × gS) :=
  gB1 (gck s l0 16) fun _ =>
  gB2 (f_J4_hashCode κ F l0  s) fun v2 s1 =>
  if v2 = (-1354815177 : Int32) then
    gB1 (gck s1 l0 16) fun _ =>
    gB2 (f_J4_equals κ F l0 (κ.2 12) s1) fun v5 s4 =>
    if v5 = 0 then
      f_X1_numbersOf_172 κ F  (-1 : Int32) s4
    else
      f_X1_numbersOf_172 κ F  (2 : Int32) s4
  else
  if v2 = (111375 : Int32) then
    gB1 (gck s1 l0 16) fun _ =>
    gB2 (f_J4_equals κ F l0 (κ.2 10) s1) fun v8 s7 =>
    if v8 = 0 then
      f_X1_numbersOf_172 κ F  (-1 : Int32) s7
    else
      f_X1_numbersOf_172 κ F  (0 : Int32) s7
  else
  if v2 = (3092207 : Int32) then
    gB1 (gck s1 l0 16) fun _ =>
    gB2 (f_J4_equals κ F l0 (κ.2 11) s1) fun v11 s10 =>
    if v11 = 0 then
      f_X1_numbersOf_172 κ F  (-1 : Int32) s10
    else
      f_X1_numbersOf_172 κ F  (1 : Int32) s10
  else
  if v2 = (3417674 : Int32) then
    gB1 (gck s1 l0 16) fun _ =>
    gB2 (f_J4_equals κ F l0 (κ.2 16) s1) fun v14 s13 =>
    if v14 = 0 then
      f_X1_numbersOf_172 κ F  (-1 : Int32) s13
    else
      f_X1_numbersOf_172 κ F  (6 : Int32) s13
  else
  if v2 = (92611376 : Int32) then
    gB1 (gck s1 l0 16) fun _ =>
    gB2 (f_J4_equals κ F l0 (κ.2 15) s1) fun v17 s16 =>
    if v17 = 0 then
      f_X1_numbersOf_172 κ F  (-1 : Int32) s16
    else
      f_X1_numbersOf_172 κ F  (5 : Int32) s16
  else
  if v2 = (93616297 : Int32) then
    gB1 (gck s1 l0 16) fun _ =>
    gB2 (f_J4_equals κ F l0 (κ.2 14) s1) fun v20 s19 =>
    if v20 = 0 then
      f_X1_numbersOf_172 κ F  (-1 : Int32) s19
    else
      f_X1_numbersOf_172 κ F  (4 : Int32) s19
  else
  if v2 = (94756344 : Int32) then
    gB1 (gck s1 l0 16) fun _ =>
    gB2 (f_J4_equals κ F l0 (κ.2 13) s1) fun v23 s22 =>
    if v23 = 0 then
      f_X1_numbersOf_172 κ F  (-1 : Int32) s22
    else
      f_X1_numbersOf_172 κ F  (3 : Int32) s22
  else
  f_X1_numbersOf_172 κ F  (-1 : Int32) s1
set_option maxHeartbeats 4000000 in
theorem w_X1_numbersOf_0 {E : gE} {F z0 n0 : Nat} {r : Int32} {s' : gS}   : ∀ (l0 : Option Nat)  (s : gS), f_X1_numbersOf_0 (gk E) F  l0 s = some (r, s') → W_X1_numbersOf E z0 n0 r s' 0 [(0, vR l0)] [] s := by
  intro l0 s hB
  unfold f_X1_numbersOf_0 at hB
  refine gw_aload_n 0 rfl dX1_numbersOf_0 ?_
  refine gw_astore_n (L' := [(1, vR l0), (0, vR l0)]) (Nat.le_of_ble_eq_true rfl) rfl dX1_numbersOf_1 ?_
  refine gw_iconst (v := (-1 : Int32)) (by decide) dX1_numbersOf_2 ?_
  refine gw_istore_n (L' := [(2, vI (-1 : Int32)), (1, vR l0), (0, vR l0)]) (Nat.le_of_ble_eq_true rfl) rfl dX1_numbersOf_3 ?_
  refine gw_aload_n 1 rfl dX1_numbersOf_4 ?_
  obtain ⟨u0, hu3, hB⟩ := gB1_some hB
  obtain ⟨v2, s1, hv2, hB⟩ := gB2_some hB
  refine gw_callV (y := yJ4_hashCode) (lw_V q1396 q368 q3116 q119 q369) hdV_J4_hashCode gcl16 hu3 (As := []) (rest := []) (m_J4_hashCode _ _ _ _ hv2) (Nat.le_of_ble_eq_true rfl) (Nat.le_of_ble_eq_true rfl) rfl (Nat.le_of_ble_eq_true rfl) dX1_numbersOf_5 (gCont_i ?_)
  by_cases hs0 : v2 = (-1354815177 : Int32)
  · rw [if_pos hs0] at hB
    refine gw_lookup (off := 96) (tgt := 104) (by decide) (by rw [hs0]; decide) dX1_numbersOf_8 (by decide) ?_
    refine gw_aload_n 1 rfl dX1_numbersOf_104 ?_
    refine gw_ldcS (own := "PageGarden") (tx := "commit") (i := 12) rfl (by decide) dX1_numbersOf_105 ?_
    obtain ⟨u0, hu6, hB⟩ := gB1_some hB
    obtain ⟨v5, s4, hv5, hB⟩ := gB2_some hB
    refine gw_callV (y := yJ4_equals) (lw_V q1398 q1154 q3117 q119 q1155) hdV_J4_equals gcl16 hu6 (As := [vR ((gk E).2 12)]) (rest := []) (m_J4_equals _ _ _ _ _ hv5) (Nat.le_of_ble_eq_true rfl) (Nat.le_of_ble_eq_true rfl) rfl (Nat.le_of_ble_eq_true rfl) dX1_numbersOf_107 (gCont_i ?_)
    refine gw_if_eq (tgt := 172) dX1_numbersOf_110 (by decide) (fun hcnd => ?_) (fun hcnd => ?_)
    · rw [if_pos hcnd] at hB
      exact gw_sub [0] rfl (w_X1_numbersOf_172  _ _ hB)
    · rw [if_neg hcnd] at hB
      refine gw_iconst (v := (2 : Int32)) (by decide) dX1_numbersOf_113 ?_
      refine gw_istore_n (L' := [(2, vI (2 : Int32)), (1, vR l0), (0, vR l0)]) (Nat.le_of_ble_eq_true rfl) rfl dX1_numbersOf_114 ?_
      refine gw_goto (tgt := 172) dX1_numbersOf_115 (by decide) ?_
      exact gw_sub [0] rfl (w_X1_numbersOf_172  _ _ hB)
  rw [if_neg hs0] at hB
  by_cases hs1 : v2 = (111375 : Int32)
  · rw [if_pos hs1] at hB
    refine gw_lookup (off := 68) (tgt := 76) (by decide) (by rw [hs1]; decide) dX1_numbersOf_8 (by decide) ?_
    refine gw_aload_n 1 rfl dX1_numbersOf_76 ?_
    refine gw_ldcS (own := "PageGarden") (tx := "put") (i := 10) rfl (by decide) dX1_numbersOf_77 ?_
    obtain ⟨u0, hu9, hB⟩ := gB1_some hB
    obtain ⟨v8, s7, hv8, hB⟩ := gB2_some hB
    refine gw_callV (y := yJ4_equals) (lw_V q1398 q1154 q3117 q119 q1155) hdV_J4_equals gcl16 hu9 (As := [vR ((gk E).2 10)]) (rest := []) (m_J4_equals _ _ _ _ _ hv8) (Nat.le_of_ble_eq_true rfl) (Nat.le_of_ble_eq_true rfl) rfl (Nat.le_of_ble_eq_true rfl) dX1_numbersOf_79 (gCont_i ?_)
    refine gw_if_eq (tgt := 172) dX1_numbersOf_82 (by decide) (fun hcnd => ?_) (fun hcnd => ?_)
    · rw [if_pos hcnd] at hB
      exact gw_sub [0] rfl (w_X1_numbersOf_172  _ _ hB)
    · rw [if_neg hcnd] at hB
      refine gw_iconst (v := (0 : Int32)) (by decide) dX1_numbersOf_85 ?_
      refine gw_istore_n (L' := [(2, vI (0 : Int32)), (1, vR l0), (0, vR l0)]) (Nat.le_of_ble_eq_true rfl) rfl dX1_numbersOf_86 ?_
      refine gw_goto (tgt := 172) dX1_numbersOf_87 (by decide) ?_
      exact gw_sub [0] rfl (w_X1_numbersOf_172  _ _ hB)
  rw [if_neg hs1] at hB
  by_cases hs2 : v2 = (3092207 : Int32)
  · rw [if_pos hs2] at hB
    refine gw_lookup (off := 82) (tgt := 90) (by decide) (by rw [hs2]; decide) dX1_numbersOf_8 (by decide) ?_
    refine gw_aload_n 1 rfl dX1_numbersOf_90 ?_
    refine gw_ldcS (own := "PageGarden") (tx := "drop") (i := 11) rfl (by decide) dX1_numbersOf_91 ?_
    obtain ⟨u0, hu12, hB⟩ := gB1_some hB
    obtain ⟨v11, s10, hv11, hB⟩ := gB2_some hB
    refine gw_callV (y := yJ4_equals) (lw_V q1398 q1154 q3117 q119 q1155) hdV_J4_equals gcl16 hu12 (As := [vR ((gk E).2 11)]) (rest := []) (m_J4_equals _ _ _ _ _ hv11) (Nat.le_of_ble_eq_true rfl) (Nat.le_of_ble_eq_true rfl) rfl (Nat.le_of_ble_eq_true rfl) dX1_numbersOf_93 (gCont_i ?_)
    refine gw_if_eq (tgt := 172) dX1_numbersOf_96 (by decide) (fun hcnd => ?_) (fun hcnd => ?_)
    · rw [if_pos hcnd] at hB
      exact gw_sub [0] rfl (w_X1_numbersOf_172  _ _ hB)
    · rw [if_neg hcnd] at hB
      refine gw_iconst (v := (1 : Int32)) (by decide) dX1_numbersOf_99 ?_
      refine gw_istore_n (L' := [(2, vI (1 : Int32)), (1, vR l0), (0, vR l0)]) (Nat.le_of_ble_eq_true rfl) rfl dX1_numbersOf_100 ?_
      refine gw_goto (tgt := 172) dX1_numbersOf_101 (by decide) ?_
      exact gw_sub [0] rfl (w_X1_numbersOf_172  _ _ hB)
  rw [if_neg hs2] at hB
  by_cases hs3 : v2 = (3417674 : Int32)
  · rw [if_pos hs3] at hB
    refine gw_lookup (off := 152) (tgt := 160) (by decide) (by rw [hs3]; decide) dX1_numbersOf_8 (by decide) ?_
    refine gw_aload_n 1 rfl dX1_numbersOf_160 ?_
    refine gw_ldcS (own := "PageGarden") (tx := "open") (i := 16) rfl (by decide) dX1_numbersOf_161 ?_
    obtain ⟨u0, hu15, hB⟩ := gB1_some hB
    obtain ⟨v14, s13, hv14, hB⟩ := gB2_some hB
    refine gw_callV (y := yJ4_equals) (lw_V q1398 q1154 q3117 q119 q1155) hdV_J4_equals gcl16 hu15 (As := [vR ((gk E).2 16)]) (rest := []) (m_J4_equals _ _ _ _ _ hv14) (Nat.le_of_ble_eq_true rfl) (Nat.le_of_ble_eq_true rfl) rfl (Nat.le_of_ble_eq_true rfl) dX1_numbersOf_163 (gCont_i ?_)
    refine gw_if_eq (tgt := 172) dX1_numbersOf_166 (by decide) (fun hcnd => ?_) (fun hcnd => ?_)
    · rw [if_pos hcnd] at hB
      exact gw_sub [0] rfl (w_X1_numbersOf_172  _ _ hB)
    · rw [if_neg hcnd] at hB
      refine gw_bipush (v := (6 : Int32)) (by decide) dX1_numbersOf_169 ?_
      refine gw_istore_n (L' := [(2, vI (6 : Int32)), (1, vR l0), (0, vR l0)]) (Nat.le_of_ble_eq_true rfl) rfl dX1_numbersOf_171 ?_
      exact gw_sub [0] rfl (w_X1_numbersOf_172  _ _ hB)
  rw [if_neg hs3] at hB
  by_cases hs4 : v2 = (92611376 : Int32)
  · rw [if_pos hs4] at hB
    refine gw_lookup (off := 138) (tgt := 146) (by decide) (by rw [hs4]; decide) dX1_numbersOf_8 (by decide) ?_
    refine gw_aload_n 1 rfl dX1_numbersOf_146 ?_
    refine gw_ldcS (own := "PageGarden") (tx := "abort") (i := 15) rfl (by decide) dX1_numbersOf_147 ?_
    obtain ⟨u0, hu18, hB⟩ := gB1_some hB
    obtain ⟨v17, s16, hv17, hB⟩ := gB2_some hB
    refine gw_callV (y := yJ4_equals) (lw_V q1398 q1154 q3117 q119 q1155) hdV_J4_equals gcl16 hu18 (As := [vR ((gk E).2 15)]) (rest := []) (m_J4_equals _ _ _ _ _ hv17) (Nat.le_of_ble_eq_true rfl) (Nat.le_of_ble_eq_true rfl) rfl (Nat.le_of_ble_eq_true rfl) dX1_numbersOf_149 (gCont_i ?_)
    refine gw_if_eq (tgt := 172) dX1_numbersOf_152 (by decide) (fun hcnd => ?_) (fun hcnd => ?_)
    · rw [if_pos hcnd] at hB
      exact gw_sub [0] rfl (w_X1_numbersOf_172  _ _ hB)
    · rw [if_neg hcnd] at hB
      refine gw_iconst (v := (5 : Int32)) (by decide) dX1_numbersOf_155 ?_
      refine gw_istore_n (L' := [(2, vI (5 : Int32)), (1, vR l0), (0, vR l0)]) (Nat.le_of_ble_eq_true rfl) rfl dX1_numbersOf_156 ?_
      refine gw_goto (tgt := 172) dX1_numbersOf_157 (by decide) ?_
      exact gw_sub [0] rfl (w_X1_numbersOf_172  _ _ hB)
  rw [if_neg hs4] at hB
  by_cases hs5 : v2 = (93616297 : Int32)
  · rw [if_pos hs5] at hB
    refine gw_lookup (off := 124) (tgt := 132) (by decide) (by rw [hs5]; decide) dX1_numbersOf_8 (by decide) ?_
    refine gw_aload_n 1 rfl dX1_numbersOf_132 ?_
    refine gw_ldcS (own := "PageGarden") (tx := "begin") (i := 14) rfl (by decide) dX1_numbersOf_133 ?_
    obtain ⟨u0, hu21, hB⟩ := gB1_some hB
    obtain ⟨v20, s19, hv20, hB⟩ := gB2_some hB
    refine gw_callV (y := yJ4_equals) (lw_V q1398 q1154 q3117 q119 q1155) hdV_J4_equals gcl16 hu21 (As := [vR ((gk E).2 14)]) (rest := []) (m_J4_equals _ _ _ _ _ hv20) (Nat.le_of_ble_eq_true rfl) (Nat.le_of_ble_eq_true rfl) rfl (Nat.le_of_ble_eq_true rfl) dX1_numbersOf_135 (gCont_i ?_)
    refine gw_if_eq (tgt := 172) dX1_numbersOf_138 (by decide) (fun hcnd => ?_) (fun hcnd => ?_)
    · rw [if_pos hcnd] at hB
      exact gw_sub [0] rfl (w_X1_numbersOf_172  _ _ hB)
    · rw [if_neg hcnd] at hB
      refine gw_iconst (v := (4 : Int32)) (by decide) dX1_numbersOf_141 ?_
      refine gw_istore_n (L' := [(2, vI (4 : Int32)), (1, vR l0), (0, vR l0)]) (Nat.le_of_ble_eq_true rfl) rfl dX1_numbersOf_142 ?_
      refine gw_goto (tgt := 172) dX1_numbersOf_143 (by decide) ?_
      exact gw_sub [0] rfl (w_X1_numbersOf_172  _ _ hB)
  rw [if_neg hs5] at hB
  by_cases hs6 : v2 = (94756344 : Int32)
  · rw [if_pos hs6] at hB
    refine gw_lookup (off := 110) (tgt := 118) (by decide) (by rw [hs6]; decide) dX1_numbersOf_8 (by decide) ?_
    refine gw_aload_n 1 rfl dX1_numbersOf_118 ?_
    refine gw_ldcS (own := "PageGarden") (tx := "close") (i := 13) rfl (by decide) dX1_numbersOf_119 ?_
    obtain ⟨u0, hu24, hB⟩ := gB1_some hB
    obtain ⟨v23, s22, hv23, hB⟩ := gB2_some hB
    refine gw_callV (y := yJ4_equals) (lw_V q1398 q1154 q3117 q119 q1155) hdV_J4_equals gcl16 hu24 (As := [vR ((gk E).2 13)]) (rest := []) (m_J4_equals _ _ _ _ _ hv23) (Nat.le_of_ble_eq_true rfl) (Nat.le_of_ble_eq_true rfl) rfl (Nat.le_of_ble_eq_true rfl) dX1_numbersOf_121 (gCont_i ?_)
    refine gw_if_eq (tgt := 172) dX1_numbersOf_124 (by decide) (fun hcnd => ?_) (fun hcnd => ?_)
    · rw [if_pos hcnd] at hB
      exact gw_sub [0] rfl (w_X1_numbersOf_172  _ _ hB)
    · rw [if_neg hcnd] at hB
      refine gw_iconst (v := (3 : Int32)) (by decide) dX1_numbersOf_127 ?_
      refine gw_istore_n (L' := [(2, vI (3 : Int32)), (1, vR l0), (0, vR l0)]) (Nat.le_of_ble_eq_true rfl) rfl dX1_numbersOf_128 ?_
      refine gw_goto (tgt := 172) dX1_numbersOf_129 (by decide) ?_
      exact gw_sub [0] rfl (w_X1_numbersOf_172  _ _ hB)
  rw [if_neg hs6] at hB
  refine gw_lookup (off := 164) (tgt := 172) (by decide) ((lv_osw hs0 (by decide)).trans ((lv_osw hs1 (by decide)).trans ((lv_osw hs2 (by decide)).trans ((lv_osw hs3 (by decide)).trans ((lv_osw hs4 (by decide)).trans ((lv_osw hs5 (by decide)).trans ((lv_osw hs6 (by decide)).trans rfl))))))) dX1_numbersOf_8 (by decide) ?_
  exact gw_sub [0] rfl (w_X1_numbersOf_172  _ _ hB)
noncomputable def f_X1_numbersOf (κ : gK) (F : Nat) (a1 : Option Nat) (s : gS) : Option (Int32 × gS) := f_X1_numbersOf_0 κ F a1 s
theorem m_X1_numbersOf {E : gE} {F : Nat} (a1 : Option Nat) (s : gS) (r : Int32) (s' : gS) (h : f_X1_numbersOf (gk E) F a1 s = some (r, s')) : gCT E 5 yX1_numbersOf (ws_ yX1_numbersOf cX1_numbersOf 3 (some FieldType.int)) [vR a1] s (.inl (some (vI r))) s' := by
  refine gCT_of2 (fun h => absurd h (by decide)) (plainFor_of_name (by decide)) (Nat.le_of_ble_eq_true rfl) ?_
  exact gw_sub [0] rfl (w_X1_numbersOf_0 _ _ h)
def dkwX11_readNumber_4 : List UInt8 := [154, 0, 7, 4, 167, 0, 4, 3, 172]
abbrev dktX11_readNumber_4 : List UInt8 := dkwX11_readNumber_4 ++ []
def dkwX11_readNumber_3 : List UInt8 := [181, 0, 29, 167, 255, 194, 42, 180, 0, 29, 28, 164, 0, 18, 42, 16, 48, 16, 57, 182, 0, 43]
abbrev dktX11_readNumber_3 : List UInt8 := dkwX11_readNumber_3 ++ dktX11_readNumber_4
def dkwX11_readNumber_2 : List UInt8 := [180, 0, 3, 180, 0, 35, 42, 180, 0, 29, 51, 96, 16, 48, 100, 79, 42, 89, 180, 0, 29, 4, 96]
abbrev dktX11_readNumber_2 : List UInt8 := dkwX11_readNumber_2 ++ dktX11_readNumber_3
def dkwX11_readNumber_1 : List UInt8 := [180, 0, 29, 28, 6, 96, 162, 0, 47, 42, 180, 0, 25, 27, 16, 10, 42, 180, 0, 25, 27, 46, 104, 42]
abbrev dktX11_readNumber_1 : List UInt8 := dkwX11_readNumber_1 ++ dktX11_readNumber_2
def dkwX11_readNumber_0 : List UInt8 := [42, 180, 0, 29, 61, 42, 180, 0, 25, 27, 3, 79, 42, 16, 48, 16, 57, 182, 0, 43, 153, 0, 57, 42]
abbrev dktX11_readNumber_0 : List UInt8 := dkwX11_readNumber_0 ++ dktX11_readNumber_1
theorem dksX11_readNumber_0 : cX11_readNumber.data.toList.drop 0 = dktX11_readNumber_0 := by decide +kernel
theorem dksX11_readNumber_1 : cX11_readNumber.data.toList.drop 24 = dktX11_readNumber_1 := dk_seg dksX11_readNumber_0 24 rfl rfl
theorem dksX11_readNumber_2 : cX11_readNumber.data.toList.drop 48 = dktX11_readNumber_2 := dk_seg dksX11_readNumber_1 24 rfl rfl
theorem dksX11_readNumber_3 : cX11_readNumber.data.toList.drop 71 = dktX11_readNumber_3 := dk_seg dksX11_readNumber_2 23 rfl rfl
theorem dksX11_readNumber_4 : cX11_readNumber.data.toList.drop 93 = dktX11_readNumber_4 := dk_seg dksX11_readNumber_3 22 rfl rfl
theorem dX11_readNumber_0 : decode cX11_readNumber 0 = .ok (.aload_n 0, 1) := dk_42 (dk_at dksX11_readNumber_0 0 rfl rfl)
theorem dX11_readNumber_1 : decode cX11_readNumber 1 = .ok (.getfield 29, 3) := dk_180 0 29 (dk_at dksX11_readNumber_0 1 rfl rfl)
theorem dX11_readNumber_4 : decode cX11_readNumber 4 = .ok (.istore_n 2, 1) := dk_61 (dk_at dksX11_readNumber_0 4 rfl rfl)
theorem dX11_readNumber_5 : decode cX11_readNumber 5 = .ok (.aload_n 0, 1) := dk_42 (dk_at dksX11_readNumber_0 5 rfl rfl)
theorem dX11_readNumber_6 : decode cX11_readNumber 6 = .ok (.getfield 25, 3) := dk_180 0 25 (dk_at dksX11_readNumber_0 6 rfl rfl)
theorem dX11_readNumber_9 : decode cX11_readNumber 9 = .ok (.iload_n 1, 1) := dk_27 (dk_at dksX11_readNumber_0 9 rfl rfl)
theorem dX11_readNumber_10 : decode cX11_readNumber 10 = .ok (.iconst 0, 1) := dk_3 (dk_at dksX11_readNumber_0 10 rfl rfl)
theorem dX11_readNumber_11 : decode cX11_readNumber 11 = .ok (.iastore, 1) := dk_79 (dk_at dksX11_readNumber_0 11 rfl rfl)
theorem dX11_readNumber_12 : decode cX11_readNumber 12 = .ok (.aload_n 0, 1) := dk_42 (dk_at dksX11_readNumber_0 12 rfl rfl)
theorem dX11_readNumber_13 : decode cX11_readNumber 13 = .ok (.bipush 48, 2) := dk_16 48 (dk_at dksX11_readNumber_0 13 rfl rfl)
theorem dX11_readNumber_15 : decode cX11_readNumber 15 = .ok (.bipush 57, 2) := dk_16 57 (dk_at dksX11_readNumber_0 15 rfl rfl)
theorem dX11_readNumber_17 : decode cX11_readNumber 17 = .ok (.invokevirtual 43, 3) := dk_182 0 43 (dk_at dksX11_readNumber_0 17 rfl rfl)
theorem dX11_readNumber_20 : decode cX11_readNumber 20 = .ok (.ifCond .eq 57, 3) := dk_153 0 57 (dk_at dksX11_readNumber_0 20 rfl rfl)
theorem dX11_readNumber_23 : decode cX11_readNumber 23 = .ok (.aload_n 0, 1) := dk_42 (dk_at dksX11_readNumber_0 23 rfl rfl)
theorem dX11_readNumber_24 : decode cX11_readNumber 24 = .ok (.getfield 29, 3) := dk_180 0 29 (dk_at dksX11_readNumber_1 0 rfl rfl)
theorem dX11_readNumber_27 : decode cX11_readNumber 27 = .ok (.iload_n 2, 1) := dk_28 (dk_at dksX11_readNumber_1 3 rfl rfl)
theorem dX11_readNumber_28 : decode cX11_readNumber 28 = .ok (.iconst 3, 1) := dk_6 (dk_at dksX11_readNumber_1 4 rfl rfl)
theorem dX11_readNumber_29 : decode cX11_readNumber 29 = .ok (.iadd, 1) := dk_96 (dk_at dksX11_readNumber_1 5 rfl rfl)
theorem dX11_readNumber_30 : decode cX11_readNumber 30 = .ok (.if_icmp .ge 47, 3) := dk_162 0 47 (dk_at dksX11_readNumber_1 6 rfl rfl)
theorem dX11_readNumber_33 : decode cX11_readNumber 33 = .ok (.aload_n 0, 1) := dk_42 (dk_at dksX11_readNumber_1 9 rfl rfl)
theorem dX11_readNumber_34 : decode cX11_readNumber 34 = .ok (.getfield 25, 3) := dk_180 0 25 (dk_at dksX11_readNumber_1 10 rfl rfl)
theorem dX11_readNumber_37 : decode cX11_readNumber 37 = .ok (.iload_n 1, 1) := dk_27 (dk_at dksX11_readNumber_1 13 rfl rfl)
theorem dX11_readNumber_38 : decode cX11_readNumber 38 = .ok (.bipush 10, 2) := dk_16 10 (dk_at dksX11_readNumber_1 14 rfl rfl)
theorem dX11_readNumber_40 : decode cX11_readNumber 40 = .ok (.aload_n 0, 1) := dk_42 (dk_at dksX11_readNumber_1 16 rfl rfl)
theorem dX11_readNumber_41 : decode cX11_readNumber 41 = .ok (.getfield 25, 3) := dk_180 0 25 (dk_at dksX11_readNumber_1 17 rfl rfl)
theorem dX11_readNumber_44 : decode cX11_readNumber 44 = .ok (.iload_n 1, 1) := dk_27 (dk_at dksX11_readNumber_1 20 rfl rfl)
theorem dX11_readNumber_45 : decode cX11_readNumber 45 = .ok (.iaload, 1) := dk_46 (dk_at dksX11_readNumber_1 21 rfl rfl)
theorem dX11_readNumber_46 : decode cX11_readNumber 46 = .ok (.imul, 1) := dk_104 (dk_at dksX11_readNumber_1 22 rfl rfl)
theorem dX11_readNumber_47 : decode cX11_readNumber 47 = .ok (.aload_n 0, 1) := dk_42 (dk_at dksX11_readNumber_1 23 rfl rfl)
theorem dX11_readNumber_48 : decode cX11_readNumber 48 = .ok (.getfield 3, 3) := dk_180 0 3 (dk_at dksX11_readNumber_2 0 rfl rfl)
theorem dX11_readNumber_51 : decode cX11_readNumber 51 = .ok (.getfield 35, 3) := dk_180 0 35 (dk_at dksX11_readNumber_2 3 rfl rfl)
theorem dX11_readNumber_54 : decode cX11_readNumber 54 = .ok (.aload_n 0, 1) := dk_42 (dk_at dksX11_readNumber_2 6 rfl rfl)
theorem dX11_readNumber_55 : decode cX11_readNumber 55 = .ok (.getfield 29, 3) := dk_180 0 29 (dk_at dksX11_readNumber_2 7 rfl rfl)
theorem dX11_readNumber_58 : decode cX11_readNumber 58 = .ok (.baload, 1) := dk_51 (dk_at dksX11_readNumber_2 10 rfl rfl)
theorem dX11_readNumber_59 : decode cX11_readNumber 59 = .ok (.iadd, 1) := dk_96 (dk_at dksX11_readNumber_2 11 rfl rfl)
theorem dX11_readNumber_60 : decode cX11_readNumber 60 = .ok (.bipush 48, 2) := dk_16 48 (dk_at dksX11_readNumber_2 12 rfl rfl)
theorem dX11_readNumber_62 : decode cX11_readNumber 62 = .ok (.isub, 1) := dk_100 (dk_at dksX11_readNumber_2 14 rfl rfl)
theorem dX11_readNumber_63 : decode cX11_readNumber 63 = .ok (.iastore, 1) := dk_79 (dk_at dksX11_readNumber_2 15 rfl rfl)
theorem dX11_readNumber_64 : decode cX11_readNumber 64 = .ok (.aload_n 0, 1) := dk_42 (dk_at dksX11_readNumber_2 16 rfl rfl)
theorem dX11_readNumber_65 : decode cX11_readNumber 65 = .ok (.dup, 1) := dk_89 (dk_at dksX11_readNumber_2 17 rfl rfl)
theorem dX11_readNumber_66 : decode cX11_readNumber 66 = .ok (.getfield 29, 3) := dk_180 0 29 (dk_at dksX11_readNumber_2 18 rfl rfl)
theorem dX11_readNumber_69 : decode cX11_readNumber 69 = .ok (.iconst 1, 1) := dk_4 (dk_at dksX11_readNumber_2 21 rfl rfl)
theorem dX11_readNumber_70 : decode cX11_readNumber 70 = .ok (.iadd, 1) := dk_96 (dk_at dksX11_readNumber_2 22 rfl rfl)
theorem dX11_readNumber_71 : decode cX11_readNumber 71 = .ok (.putfield 29, 3) := dk_181 0 29 (dk_at dksX11_readNumber_3 0 rfl rfl)
theorem dX11_readNumber_74 : decode cX11_readNumber 74 = .ok (.goto (-62), 3) := dk_167 255 194 (dk_at dksX11_readNumber_3 3 rfl rfl)
theorem dX11_readNumber_77 : decode cX11_readNumber 77 = .ok (.aload_n 0, 1) := dk_42 (dk_at dksX11_readNumber_3 6 rfl rfl)
theorem dX11_readNumber_78 : decode cX11_readNumber 78 = .ok (.getfield 29, 3) := dk_180 0 29 (dk_at dksX11_readNumber_3 7 rfl rfl)
theorem dX11_readNumber_81 : decode cX11_readNumber 81 = .ok (.iload_n 2, 1) := dk_28 (dk_at dksX11_readNumber_3 10 rfl rfl)
theorem dX11_readNumber_82 : decode cX11_readNumber 82 = .ok (.if_icmp .le 18, 3) := dk_164 0 18 (dk_at dksX11_readNumber_3 11 rfl rfl)
theorem dX11_readNumber_85 : decode cX11_readNumber 85 = .ok (.aload_n 0, 1) := dk_42 (dk_at dksX11_readNumber_3 14 rfl rfl)
theorem dX11_readNumber_86 : decode cX11_readNumber 86 = .ok (.bipush 48, 2) := dk_16 48 (dk_at dksX11_readNumber_3 15 rfl rfl)
theorem dX11_readNumber_88 : decode cX11_readNumber 88 = .ok (.bipush 57, 2) := dk_16 57 (dk_at dksX11_readNumber_3 17 rfl rfl)
theorem dX11_readNumber_90 : decode cX11_readNumber 90 = .ok (.invokevirtual 43, 3) := dk_182 0 43 (dk_at dksX11_readNumber_3 19 rfl rfl)
theorem dX11_readNumber_93 : decode cX11_readNumber 93 = .ok (.ifCond .ne 7, 3) := dk_154 0 7 (dk_at dksX11_readNumber_4 0 rfl rfl)
theorem dX11_readNumber_96 : decode cX11_readNumber 96 = .ok (.iconst 1, 1) := dk_4 (dk_at dksX11_readNumber_4 3 rfl rfl)
theorem dX11_readNumber_97 : decode cX11_readNumber 97 = .ok (.goto 4, 3) := dk_167 0 4 (dk_at dksX11_readNumber_4 4 rfl rfl)
theorem dX11_readNumber_100 : decode cX11_readNumber 100 = .ok (.iconst 0, 1) := dk_3 (dk_at dksX11_readNumber_4 7 rfl rfl)
theorem dX11_readNumber_101 : decode cX11_readNumber 101 = .ok (.ireturn, 1) := dk_172 (dk_at dksX11_readNumber_4 8 rfl rfl)
/-! PageGarden$Text.readNumber(I)Z -/
abbrev M_X11_readNumber (z0 n0 : Nat) (s' : gS) : gM := (RX11, cX11_readNumber, 3, (some FieldType.boolean), "readNumber", [], 3, z0, n0, s'.2.1, s'.2.2)
abbrev W_X11_readNumber (E : gE) (z0 n0 : Nat) (r : Int32) (s' : gS) (pc : Nat) (L : List (Nat × gV)) (st : List gV) (s : gS) : Prop := gW E (M_X11_readNumber z0 n0 s') (gQm E (M_X11_readNumber z0 n0 s') (.inl (some (vI r))) s') pc L st s
noncomputable def f_X11_readNumber_101 (κ : gK) (F : Nat)  (t0 : Int32) (s : gS) : Option (Int32 × gS) :=
  gB1 (gok .boolean t0) fun _ => some (t0, s)
set_option maxHeartbeats 4000000 in
theorem w_X11_readNumber_101 {E : gE} {F z0 n0 : Nat} {r : Int32} {s' : gS}   : ∀  (t0 : Int32) (s : gS), f_X11_readNumber_101 (gk E) F  t0 s = some (r, s') → W_X11_readNumber E z0 n0 r s' 101 [] [vI t0] s := by
  intro t0 s hB
  unfold f_X11_readNumber_101 at hB
  obtain ⟨u, hu, hB⟩ := gB1_some hB
  obtain ⟨rfl, rfl⟩ := Prod.mk.inj (Option.some.inj hB)
  exact gw_zret rfl hu rfl rfl dX11_readNumber_101
noncomputable def f_X11_readNumber_100 (κ : gK) (F : Nat)   (s : gS) : Option (Int32 × gS) :=
  f_X11_readNumber_101 κ F  (0 : Int32) s
set_option maxHeartbeats 4000000 in
theorem w_X11_readNumber_100 {E : gE} {F z0 n0 : Nat} {r : Int32} {s' : gS}   : ∀   (s : gS), f_X11_readNumber_100 (gk E) F   s = some (r, s') → W_X11_readNumber E z0 n0 r s' 100 [] [] s := by
  intro  s hB
  unfold f_X11_readNumber_100 at hB
  refine gw_iconst (v := (0 : Int32)) (by decide) dX11_readNumber_100 ?_
  exact gw_sub [] rfl (w_X11_readNumber_101  _ _ hB)
noncomputable def f_X11_readNumber_77 (κ : gK) (F : Nat)  (l0 : Option Nat) (l2 : Int32) (s : gS) : Option (Int32 × gS) :=
  gB1 (gfI s l0 8 0) fun v1 =>
  if v1 ≤ l2 then
    f_X11_readNumber_100 κ F  s
  else
    gB1 (gck s l0 8) fun _ =>
    gB2 (f_X11_isAt κ F l0 (48 : Int32) (57 : Int32) s) fun v3 s2 =>
    if v3 = 0 then
      f_X11_readNumber_101 κ F  (1 : Int32) s2
    else
      f_X11_readNumber_100 κ F  s2
set_option maxHeartbeats 4000000 in
theorem w_X11_readNumber_77 {E : gE} {F z0 n0 : Nat} {r : Int32} {s' : gS}   : ∀ (l0 : Option Nat) (l2 : Int32)  (s : gS), f_X11_readNumber_77 (gk E) F  l0 l2 s = some (r, s') → W_X11_readNumber E z0 n0 r s' 77 [(0, vR l0), (2, vI l2)] [] s := by
  intro l0 l2 s hB
  unfold f_X11_readNumber_77 at hB
  refine gw_aload_n 0 rfl dX11_readNumber_77 ?_
  obtain ⟨v1, hv1, hB⟩ := gB1_some hB
  refine gw_getf (C := RX11) (T := TX11) (N := 5) (k := 0) gcl8 (by decide) in_X11 q1332 (gfI_spec hv1) dX11_readNumber_78 ?_
  refine gw_iload_n 1 rfl dX11_readNumber_81 ?_
  refine gw_icmp_le (tgt := 100) dX11_readNumber_82 (by decide) (fun hcnd => ?_) (fun hcnd => ?_)
  · rw [if_pos hcnd] at hB
    exact gw_sub [] rfl (w_X11_readNumber_100   _ hB)
  · rw [if_neg hcnd] at hB
    refine gw_aload_n 0 rfl dX11_readNumber_85 ?_
    refine gw_bipush (v := (48 : Int32)) (by decide) dX11_readNumber_86 ?_
    refine gw_bipush (v := (57 : Int32)) (by decide) dX11_readNumber_88 ?_
    obtain ⟨u0, hu4, hB⟩ := gB1_some hB
    obtain ⟨v3, s2, hv3, hB⟩ := gB2_some hB
    refine gw_callV (y := yX11_isAt) (lw_V q1357 q1359 qs6 q165 q1360) hdV_X11_isAt gcl8 hu4 (As := [vI (48 : Int32), vI (57 : Int32)]) (rest := []) (m_X11_isAt _ _ _ _ _ _ hv3) (Nat.le_of_ble_eq_true rfl) (Nat.le_of_ble_eq_true rfl) rfl (Nat.le_of_ble_eq_true rfl) dX11_readNumber_90 (gCont_i ?_)
    refine gw_if_ne (tgt := 100) dX11_readNumber_93 (by decide) (fun hcnd => ?_) (fun hcnd => ?_)
    · rw [if_neg hcnd] at hB
      exact gw_sub [] rfl (w_X11_readNumber_100   _ hB)
    · rw [if_pos hcnd] at hB
      refine gw_iconst (v := (1 : Int32)) (by decide) dX11_readNumber_96 ?_
      refine gw_goto (tgt := 101) dX11_readNumber_97 (by decide) ?_
      exact gw_sub [] rfl (w_X11_readNumber_101  _ _ hB)
noncomputable def f_X11_readNumber_12b (κ : gK) (F : Nat) (k12 : Option Nat → Int32 → Int32 → gS → Option (Int32 × gS)) (l0 : Option Nat) (l1 : Int32) (l2 : Int32) (s : gS) : Option (Int32 × gS) :=
  gB1 (gck s l0 8) fun _ =>
  gB2 (f_X11_isAt κ F l0 (48 : Int32) (57 : Int32) s) fun v2 s1 =>
  if v2 = 0 then
    f_X11_readNumber_77 κ F  l0 l2 s1
  else
    gB1 (gfI s1 l0 8 0) fun v4 =>
    if (l2 + (3 : Int32)) ≤ v4 then
      f_X11_readNumber_77 κ F  l0 l2 s1
    else
      gB1 (gfR s1 l0 8 3) fun v5 =>
      gB1 (gfR s1 l0 8 3) fun v6 =>
      gB1 (gaI s1 v6 0 l1) fun v7 =>
      gB1 (gfR s1 l0 8 4) fun v8 =>
      gB1 (gfR s1 v8 0 2) fun v9 =>
      gB1 (gfI s1 l0 8 0) fun v10 =>
      gB1 (gaI s1 v9 2 v10) fun v11 =>
      gB1 (gsI κ s1 v5 l1 ((((10 : Int32) * v7) + v11) - (48 : Int32))) fun s12 =>
      gB1 (gfI s12 l0 8 0) fun v13 =>
      gB1 (gpf κ s12 l0 8 0 (.int (v13 + (1 : Int32)))) fun s14 =>
      k12 l0 l1 l2 s14
noncomputable def f_X11_readNumber_12 (κ : gK) (F : Nat)  : Nat → Option Nat → Int32 → Int32 → gS → Option (Int32 × gS)
  | 0 => fun _ _ _ _ => none
  | n + 1 => f_X11_readNumber_12b κ F  (f_X11_readNumber_12 κ F  n)
set_option maxHeartbeats 4000000 in
theorem w_X11_readNumber_12b {E : gE} {F z0 n0 : Nat} {r : Int32} {s' : gS} {k12 : Option Nat → Int32 → Int32 → gS → Option (Int32 × gS)} (hk12 : ∀ (l0 : Option Nat) (l1 : Int32) (l2 : Int32) (s : gS), k12 l0 l1 l2 s = some (r, s') → W_X11_readNumber E z0 n0 r s' 12 [(0, vR l0), (1, vI l1), (2, vI l2)] [] s) : ∀ (l0 : Option Nat) (l1 : Int32) (l2 : Int32)  (s : gS), f_X11_readNumber_12b (gk E) F k12 l0 l1 l2 s = some (r, s') → W_X11_readNumber E z0 n0 r s' 12 [(0, vR l0), (1, vI l1), (2, vI l2)] [] s := by
  intro l0 l1 l2 s hB
  unfold f_X11_readNumber_12b at hB
  refine gw_aload_n 0 rfl dX11_readNumber_12 ?_
  refine gw_bipush (v := (48 : Int32)) (by decide) dX11_readNumber_13 ?_
  refine gw_bipush (v := (57 : Int32)) (by decide) dX11_readNumber_15 ?_
  obtain ⟨u0, hu3, hB⟩ := gB1_some hB
  obtain ⟨v2, s1, hv2, hB⟩ := gB2_some hB
  refine gw_callV (y := yX11_isAt) (lw_V q1357 q1359 qs6 q165 q1360) hdV_X11_isAt gcl8 hu3 (As := [vI (48 : Int32), vI (57 : Int32)]) (rest := []) (m_X11_isAt _ _ _ _ _ _ hv2) (Nat.le_of_ble_eq_true rfl) (Nat.le_of_ble_eq_true rfl) rfl (Nat.le_of_ble_eq_true rfl) dX11_readNumber_17 (gCont_i ?_)
  refine gw_if_eq (tgt := 77) dX11_readNumber_20 (by decide) (fun hcnd => ?_) (fun hcnd => ?_)
  · rw [if_pos hcnd] at hB
    exact gw_sub [0, 2] rfl (w_X11_readNumber_77  _ _ _ hB)
  · rw [if_neg hcnd] at hB
    refine gw_aload_n 0 rfl dX11_readNumber_23 ?_
    obtain ⟨v4, hv4, hB⟩ := gB1_some hB
    refine gw_getf (C := RX11) (T := TX11) (N := 5) (k := 0) gcl8 (by decide) in_X11 q1332 (gfI_spec hv4) dX11_readNumber_24 ?_
    refine gw_iload_n 2 rfl dX11_readNumber_27 ?_
    refine gw_iconst (v := (3 : Int32)) (by decide) dX11_readNumber_28 ?_
    refine gw_iadd dX11_readNumber_29 ?_
    refine gw_icmp_ge (tgt := 77) dX11_readNumber_30 (by decide) (fun hcnd => ?_) (fun hcnd => ?_)
    · rw [if_pos hcnd] at hB
      exact gw_sub [0, 2] rfl (w_X11_readNumber_77  _ _ _ hB)
    · rw [if_neg hcnd] at hB
      refine gw_aload_n 0 rfl dX11_readNumber_33 ?_
      obtain ⟨v5, hv5, hB⟩ := gB1_some hB
      refine gw_getf (C := RX11) (T := TX11) (N := 5) (k := 3) gcl8 (by decide) in_X11 q1336 (gfR_spec hv5) dX11_readNumber_34 ?_
      refine gw_iload_n 1 rfl dX11_readNumber_37 ?_
      refine gw_bipush (v := (10 : Int32)) (by decide) dX11_readNumber_38 ?_
      refine gw_aload_n 0 rfl dX11_readNumber_40 ?_
      obtain ⟨v6, hv6, hB⟩ := gB1_some hB
      refine gw_getf (C := RX11) (T := TX11) (N := 5) (k := 3) gcl8 (by decide) in_X11 q1336 (gfR_spec hv6) dX11_readNumber_41 ?_
      refine gw_iload_n 1 rfl dX11_readNumber_44 ?_
      obtain ⟨v7, hv7, hB⟩ := gB1_some hB
      refine gw_iaload hv7 dX11_readNumber_45 ?_
      refine gw_imul dX11_readNumber_46 ?_
      refine gw_aload_n 0 rfl dX11_readNumber_47 ?_
      obtain ⟨v8, hv8, hB⟩ := gB1_some hB
      refine gw_getf (C := RX11) (T := TX11) (N := 5) (k := 4) gcl8 (by decide) in_X11 q1337 (gfR_spec hv8) dX11_readNumber_48 ?_
      obtain ⟨v9, hv9, hB⟩ := gB1_some hB
      refine gw_getfN (C := RX1) (T := TX1) (N := 4) (k := 2) gcl0 (by decide) in_X1 q1273 (gfR_spec hv9) dX11_readNumber_51 ?_
      refine gw_aload_n 0 rfl dX11_readNumber_54 ?_
      obtain ⟨v10, hv10, hB⟩ := gB1_some hB
      refine gw_getf (C := RX11) (T := TX11) (N := 5) (k := 0) gcl8 (by decide) in_X11 q1332 (gfI_spec hv10) dX11_readNumber_55 ?_
      obtain ⟨v11, hv11, hB⟩ := gB1_some hB
      refine gw_baload hv11 dX11_readNumber_58 ?_
      refine gw_iadd dX11_readNumber_59 ?_
      refine gw_bipush (v := (48 : Int32)) (by decide) dX11_readNumber_60 ?_
      refine gw_isub dX11_readNumber_62 ?_
      obtain ⟨s12, hs12, hB⟩ := gB1_some hB
      refine gw_iastore hs12 dX11_readNumber_63 ?_
      refine gw_aload_n 0 rfl dX11_readNumber_64 ?_
      refine gw_dup rfl dX11_readNumber_65 ?_
      obtain ⟨v13, hv13, hB⟩ := gB1_some hB
      refine gw_getf (C := RX11) (T := TX11) (N := 5) (k := 0) gcl8 (by decide) in_X11 q1332 (gfI_spec hv13) dX11_readNumber_66 ?_
      refine gw_iconst (v := (1 : Int32)) (by decide) dX11_readNumber_69 ?_
      refine gw_iadd dX11_readNumber_70 ?_
      obtain ⟨s14, hs14, hB⟩ := gB1_some hB
      refine gw_putf (C := RX11) (T := TX11) (N := 5) (k := 0) tyX11 tyX11_ok nmX11 gcl8 (by decide) in_X11 q1332 rfl (tyX11_ok 0 (by decide)) (gNF_i _) hs14 dX11_readNumber_71 ?_
      refine gw_goto (tgt := 12) dX11_readNumber_74 (by decide) ?_
      exact gw_sub [0, 1, 2] rfl (hk12 _ _ _ _ hB)
theorem w_X11_readNumber_12 {E : gE} {F z0 n0 : Nat} {r : Int32} {s' : gS}   : ∀ (n : Nat) (l0 : Option Nat) (l1 : Int32) (l2 : Int32)  (s : gS), f_X11_readNumber_12 (gk E) F  n l0 l1 l2 s = some (r, s') → W_X11_readNumber E z0 n0 r s' 12 [(0, vR l0), (1, vI l1), (2, vI l2)] [] s := by
  intro n
  induction n with
  | zero => intro l0 l1 l2 s hB; cases hB
  | succ n ih => intro l0 l1 l2 s hB; exact w_X11_readNumber_12b ih l0 l1 l2 s hB
noncomputable def f_X11_readNumber_0 (κ : gK) (F : Nat)  (l0 : Option Nat) (l1 : Int32) (s : gS) : Option (Int32 × gS) :=
  gB1 (gfI s l0 8 0) fun v1 =>
  gB1 (gfR s l0 8 3) fun v2 =>
  gB1 (gsI κ s v2 l1 (0 : Int32)) fun s3 =>
  f_X11_readNumber_12 κ F  F l0 l1 v1 s3
set_option maxHeartbeats 4000000 in
theorem w_X11_readNumber_0 {E : gE} {F z0 n0 : Nat} {r : Int32} {s' : gS}   : ∀ (l0 : Option Nat) (l1 : Int32)  (s : gS), f_X11_readNumber_0 (gk E) F  l0 l1 s = some (r, s') → W_X11_readNumber E z0 n0 r s' 0 [(0, vR l0), (1, vI l1)] [] s := by
  intro l0 l1 s hB
  unfold f_X11_readNumber_0 at hB
  refine gw_aload_n 0 rfl dX11_readNumber_0 ?_
  obtain ⟨v1, hv1, hB⟩ := gB1_some hB
  refine gw_getf (C := RX11) (T := TX11) (N := 5) (k := 0) gcl8 (by decide) in_X11 q1332 (gfI_spec hv1) dX11_readNumber_1 ?_
  refine gw_istore_n (L' := [(2, vI v1), (0, vR l0), (1, vI l1)]) (Nat.le_of_ble_eq_true rfl) rfl dX11_readNumber_4 ?_
  refine gw_aload_n 1 rfl dX11_readNumber_5 ?_
  obtain ⟨v2, hv2, hB⟩ := gB1_some hB
  refine gw_getf (C := RX11) (T := TX11) (N := 5) (k := 3) gcl8 (by decide) in_X11 q1336 (gfR_spec hv2) dX11_readNumber_6 ?_
  refine gw_iload_n 2 rfl dX11_readNumber_9 ?_
  refine gw_iconst (v := (0 : Int32)) (by decide) dX11_readNumber_10 ?_
  obtain ⟨s3, hs3, hB⟩ := gB1_some hB
  refine gw_iastore hs3 dX11_readNumber_11 ?_
  exact gw_sub [1, 2, 0] rfl (w_X11_readNumber_12  F _ _ _ _ hB)
noncomputable def f_X11_readNumber (κ : gK) (F : Nat) (a0 : Option Nat) (a1 : Int32) (s : gS) : Option (Int32 × gS) := f_X11_readNumber_0 κ F a0 a1 s
theorem m_X11_readNumber {E : gE} {F : Nat} (a0 : Option Nat) (a1 : Int32) (s : gS) (r : Int32) (s' : gS) (h : f_X11_readNumber (gk E) F a0 a1 s = some (r, s')) : gCT E 3 yX11_readNumber (ws_ yX11_readNumber cX11_readNumber 3 (some FieldType.boolean)) [vR a0, vI a1] s (.inl (some (vI r))) s' := by
  refine gCT_of2 (fun h => absurd h (by decide)) (plainFor_of_name (by decide)) (Nat.le_of_ble_eq_true rfl) ?_
  exact gw_sub [0, 1] rfl (w_X11_readNumber_0 _ _ _ h)
def dkwX11_readCommand_6 : List UInt8 := [153, 0, 7, 4, 167, 0, 4, 3, 96, 181, 0, 29, 21, 5, 172]
abbrev dktX11_readCommand_6 : List UInt8 := dkwX11_readCommand_6 ++ []
def dkwX11_readCommand_5 : List UInt8 := [182, 0, 47, 54, 4, 42, 16, 59, 16, 59, 182, 0, 43, 54, 5, 42, 89, 180, 0, 29, 21, 5]
abbrev dktX11_readCommand_5 : List UInt8 := dkwX11_readCommand_5 ++ dktX11_readCommand_6
def dkwX11_readCommand_4 : List UInt8 := [182, 0, 47, 153, 0, 12, 42, 21, 4, 182, 0, 69, 154, 0, 5, 3, 172, 132, 4, 1, 167, 255, 229, 42]
abbrev dktX11_readCommand_4 : List UInt8 := dkwX11_readCommand_4 ++ dktX11_readCommand_5
def dkwX11_readCommand_3 : List UInt8 := [17, 252, 24, 160, 0, 10, 42, 27, 181, 0, 29, 3, 172, 3, 54, 4, 21, 4, 29, 162, 0, 27, 42]
abbrev dktX11_readCommand_3 : List UInt8 := dkwX11_readCommand_3 ++ dktX11_readCommand_4
def dkwX11_readCommand_2 : List UInt8 := [96, 181, 0, 29, 167, 255, 217, 42, 44, 182, 0, 61, 181, 0, 21, 42, 180, 0, 21, 184, 0, 65, 62, 29]
abbrev dktX11_readCommand_2 : List UInt8 := dkwX11_readCommand_2 ++ dktX11_readCommand_3
def dkwX11_readCommand_1 : List UInt8 := [44, 42, 180, 0, 3, 180, 0, 35, 42, 180, 0, 29, 51, 146, 182, 0, 57, 87, 42, 89, 180, 0, 29, 4]
abbrev dktX11_readCommand_1 : List UInt8 := dkwX11_readCommand_1 ++ dktX11_readCommand_2
def dkwX11_readCommand_0 : List UInt8 := [42, 180, 0, 29, 60, 187, 0, 54, 89, 183, 0, 56, 77, 42, 16, 97, 16, 122, 182, 0, 43, 153, 0, 34]
abbrev dktX11_readCommand_0 : List UInt8 := dkwX11_readCommand_0 ++ dktX11_readCommand_1
theorem dksX11_readCommand_0 : cX11_readCommand.data.toList.drop 0 = dktX11_readCommand_0 := by decide +kernel
theorem dksX11_readCommand_1 : cX11_readCommand.data.toList.drop 24 = dktX11_readCommand_1 := dk_seg dksX11_readCommand_0 24 rfl rfl
theorem dksX11_readCommand_2 : cX11_readCommand.data.toList.drop 48 = dktX11_readCommand_2 := dk_seg dksX11_readCommand_1 24 rfl rfl
theorem dksX11_readCommand_3 : cX11_readCommand.data.toList.drop 72 = dktX11_readCommand_3 := dk_seg dksX11_readCommand_2 24 rfl rfl
theorem dksX11_readCommand_4 : cX11_readCommand.data.toList.drop 95 = dktX11_readCommand_4 := dk_seg dksX11_readCommand_3 23 rfl rfl
theorem dksX11_readCommand_5 : cX11_readCommand.data.toList.drop 119 = dktX11_readCommand_5 := dk_seg dksX11_readCommand_4 24 rfl rfl
theorem dksX11_readCommand_6 : cX11_readCommand.data.toList.drop 141 = dktX11_readCommand_6 := dk_seg dksX11_readCommand_5 22 rfl rfl
theorem dX11_readCommand_0 : decode cX11_readCommand 0 = .ok (.aload_n 0, 1) := dk_42 (dk_at dksX11_readCommand_0 0 rfl rfl)
theorem dX11_readCommand_1 : decode cX11_readCommand 1 = .ok (.getfield 29, 3) := dk_180 0 29 (dk_at dksX11_readCommand_0 1 rfl rfl)
theorem dX11_readCommand_4 : decode cX11_readCommand 4 = .ok (.istore_n 1, 1) := dk_60 (dk_at dksX11_readCommand_0 4 rfl rfl)
theorem dX11_readCommand_5 : decode cX11_readCommand 5 = .ok (.new 54, 3) := dk_187 0 54 (dk_at dksX11_readCommand_0 5 rfl rfl)
theorem dX11_readCommand_8 : decode cX11_readCommand 8 = .ok (.dup, 1) := dk_89 (dk_at dksX11_readCommand_0 8 rfl rfl)
theorem dX11_readCommand_9 : decode cX11_readCommand 9 = .ok (.invokespecial 56, 3) := dk_183 0 56 (dk_at dksX11_readCommand_0 9 rfl rfl)
theorem dX11_readCommand_12 : decode cX11_readCommand 12 = .ok (.astore_n 2, 1) := dk_77 (dk_at dksX11_readCommand_0 12 rfl rfl)
theorem dX11_readCommand_13 : decode cX11_readCommand 13 = .ok (.aload_n 0, 1) := dk_42 (dk_at dksX11_readCommand_0 13 rfl rfl)
theorem dX11_readCommand_14 : decode cX11_readCommand 14 = .ok (.bipush 97, 2) := dk_16 97 (dk_at dksX11_readCommand_0 14 rfl rfl)
theorem dX11_readCommand_16 : decode cX11_readCommand 16 = .ok (.bipush 122, 2) := dk_16 122 (dk_at dksX11_readCommand_0 16 rfl rfl)
theorem dX11_readCommand_18 : decode cX11_readCommand 18 = .ok (.invokevirtual 43, 3) := dk_182 0 43 (dk_at dksX11_readCommand_0 18 rfl rfl)
theorem dX11_readCommand_21 : decode cX11_readCommand 21 = .ok (.ifCond .eq 34, 3) := dk_153 0 34 (dk_at dksX11_readCommand_0 21 rfl rfl)
theorem dX11_readCommand_24 : decode cX11_readCommand 24 = .ok (.aload_n 2, 1) := dk_44 (dk_at dksX11_readCommand_1 0 rfl rfl)
theorem dX11_readCommand_25 : decode cX11_readCommand 25 = .ok (.aload_n 0, 1) := dk_42 (dk_at dksX11_readCommand_1 1 rfl rfl)
theorem dX11_readCommand_26 : decode cX11_readCommand 26 = .ok (.getfield 3, 3) := dk_180 0 3 (dk_at dksX11_readCommand_1 2 rfl rfl)
theorem dX11_readCommand_29 : decode cX11_readCommand 29 = .ok (.getfield 35, 3) := dk_180 0 35 (dk_at dksX11_readCommand_1 5 rfl rfl)
theorem dX11_readCommand_32 : decode cX11_readCommand 32 = .ok (.aload_n 0, 1) := dk_42 (dk_at dksX11_readCommand_1 8 rfl rfl)
theorem dX11_readCommand_33 : decode cX11_readCommand 33 = .ok (.getfield 29, 3) := dk_180 0 29 (dk_at dksX11_readCommand_1 9 rfl rfl)
theorem dX11_readCommand_36 : decode cX11_readCommand 36 = .ok (.baload, 1) := dk_51 (dk_at dksX11_readCommand_1 12 rfl rfl)
theorem dX11_readCommand_37 : decode cX11_readCommand 37 = .ok (.i2c, 1) := dk_146 (dk_at dksX11_readCommand_1 13 rfl rfl)
theorem dX11_readCommand_38 : decode cX11_readCommand 38 = .ok (.invokevirtual 57, 3) := dk_182 0 57 (dk_at dksX11_readCommand_1 14 rfl rfl)
theorem dX11_readCommand_41 : decode cX11_readCommand 41 = .ok (.pop, 1) := dk_87 (dk_at dksX11_readCommand_1 17 rfl rfl)
theorem dX11_readCommand_42 : decode cX11_readCommand 42 = .ok (.aload_n 0, 1) := dk_42 (dk_at dksX11_readCommand_1 18 rfl rfl)
theorem dX11_readCommand_43 : decode cX11_readCommand 43 = .ok (.dup, 1) := dk_89 (dk_at dksX11_readCommand_1 19 rfl rfl)
theorem dX11_readCommand_44 : decode cX11_readCommand 44 = .ok (.getfield 29, 3) := dk_180 0 29 (dk_at dksX11_readCommand_1 20 rfl rfl)
theorem dX11_readCommand_47 : decode cX11_readCommand 47 = .ok (.iconst 1, 1) := dk_4 (dk_at dksX11_readCommand_1 23 rfl rfl)
theorem dX11_readCommand_48 : decode cX11_readCommand 48 = .ok (.iadd, 1) := dk_96 (dk_at dksX11_readCommand_2 0 rfl rfl)
theorem dX11_readCommand_49 : decode cX11_readCommand 49 = .ok (.putfield 29, 3) := dk_181 0 29 (dk_at dksX11_readCommand_2 1 rfl rfl)
theorem dX11_readCommand_52 : decode cX11_readCommand 52 = .ok (.goto (-39), 3) := dk_167 255 217 (dk_at dksX11_readCommand_2 4 rfl rfl)
theorem dX11_readCommand_55 : decode cX11_readCommand 55 = .ok (.aload_n 0, 1) := dk_42 (dk_at dksX11_readCommand_2 7 rfl rfl)
theorem dX11_readCommand_56 : decode cX11_readCommand 56 = .ok (.aload_n 2, 1) := dk_44 (dk_at dksX11_readCommand_2 8 rfl rfl)
theorem dX11_readCommand_57 : decode cX11_readCommand 57 = .ok (.invokevirtual 61, 3) := dk_182 0 61 (dk_at dksX11_readCommand_2 9 rfl rfl)
theorem dX11_readCommand_60 : decode cX11_readCommand 60 = .ok (.putfield 21, 3) := dk_181 0 21 (dk_at dksX11_readCommand_2 12 rfl rfl)
theorem dX11_readCommand_63 : decode cX11_readCommand 63 = .ok (.aload_n 0, 1) := dk_42 (dk_at dksX11_readCommand_2 15 rfl rfl)
theorem dX11_readCommand_64 : decode cX11_readCommand 64 = .ok (.getfield 21, 3) := dk_180 0 21 (dk_at dksX11_readCommand_2 16 rfl rfl)
theorem dX11_readCommand_67 : decode cX11_readCommand 67 = .ok (.invokestatic 65, 3) := dk_184 0 65 (dk_at dksX11_readCommand_2 19 rfl rfl)
theorem dX11_readCommand_70 : decode cX11_readCommand 70 = .ok (.istore_n 3, 1) := dk_62 (dk_at dksX11_readCommand_2 22 rfl rfl)
theorem dX11_readCommand_71 : decode cX11_readCommand 71 = .ok (.iload_n 3, 1) := dk_29 (dk_at dksX11_readCommand_2 23 rfl rfl)
theorem dX11_readCommand_72 : decode cX11_readCommand 72 = .ok (.sipush (-1000), 3) := dk_17 252 24 (dk_at dksX11_readCommand_3 0 rfl rfl)
theorem dX11_readCommand_75 : decode cX11_readCommand 75 = .ok (.if_icmp .ne 10, 3) := dk_160 0 10 (dk_at dksX11_readCommand_3 3 rfl rfl)
theorem dX11_readCommand_78 : decode cX11_readCommand 78 = .ok (.aload_n 0, 1) := dk_42 (dk_at dksX11_readCommand_3 6 rfl rfl)
theorem dX11_readCommand_79 : decode cX11_readCommand 79 = .ok (.iload_n 1, 1) := dk_27 (dk_at dksX11_readCommand_3 7 rfl rfl)
theorem dX11_readCommand_80 : decode cX11_readCommand 80 = .ok (.putfield 29, 3) := dk_181 0 29 (dk_at dksX11_readCommand_3 8 rfl rfl)
theorem dX11_readCommand_83 : decode cX11_readCommand 83 = .ok (.iconst 0, 1) := dk_3 (dk_at dksX11_readCommand_3 11 rfl rfl)
theorem dX11_readCommand_84 : decode cX11_readCommand 84 = .ok (.ireturn, 1) := dk_172 (dk_at dksX11_readCommand_3 12 rfl rfl)
theorem dX11_readCommand_85 : decode cX11_readCommand 85 = .ok (.iconst 0, 1) := dk_3 (dk_at dksX11_readCommand_3 13 rfl rfl)
theorem dX11_readCommand_86 : decode cX11_readCommand 86 = .ok (.istore 4, 2) := dk_54 4 (dk_at dksX11_readCommand_3 14 rfl rfl)
theorem dX11_readCommand_88 : decode cX11_readCommand 88 = .ok (.iload 4, 2) := dk_21 4 (dk_at dksX11_readCommand_3 16 rfl rfl)
theorem dX11_readCommand_90 : decode cX11_readCommand 90 = .ok (.iload_n 3, 1) := dk_29 (dk_at dksX11_readCommand_3 18 rfl rfl)
theorem dX11_readCommand_91 : decode cX11_readCommand 91 = .ok (.if_icmp .ge 27, 3) := dk_162 0 27 (dk_at dksX11_readCommand_3 19 rfl rfl)
theorem dX11_readCommand_94 : decode cX11_readCommand 94 = .ok (.aload_n 0, 1) := dk_42 (dk_at dksX11_readCommand_3 22 rfl rfl)
theorem dX11_readCommand_95 : decode cX11_readCommand 95 = .ok (.invokevirtual 47, 3) := dk_182 0 47 (dk_at dksX11_readCommand_4 0 rfl rfl)
theorem dX11_readCommand_98 : decode cX11_readCommand 98 = .ok (.ifCond .eq 12, 3) := dk_153 0 12 (dk_at dksX11_readCommand_4 3 rfl rfl)
theorem dX11_readCommand_101 : decode cX11_readCommand 101 = .ok (.aload_n 0, 1) := dk_42 (dk_at dksX11_readCommand_4 6 rfl rfl)
theorem dX11_readCommand_102 : decode cX11_readCommand 102 = .ok (.iload 4, 2) := dk_21 4 (dk_at dksX11_readCommand_4 7 rfl rfl)
theorem dX11_readCommand_104 : decode cX11_readCommand 104 = .ok (.invokevirtual 69, 3) := dk_182 0 69 (dk_at dksX11_readCommand_4 9 rfl rfl)
theorem dX11_readCommand_107 : decode cX11_readCommand 107 = .ok (.ifCond .ne 5, 3) := dk_154 0 5 (dk_at dksX11_readCommand_4 12 rfl rfl)
theorem dX11_readCommand_110 : decode cX11_readCommand 110 = .ok (.iconst 0, 1) := dk_3 (dk_at dksX11_readCommand_4 15 rfl rfl)
theorem dX11_readCommand_111 : decode cX11_readCommand 111 = .ok (.ireturn, 1) := dk_172 (dk_at dksX11_readCommand_4 16 rfl rfl)
theorem dX11_readCommand_112 : decode cX11_readCommand 112 = .ok (.iinc 4 1, 3) := dk_132 4 1 (dk_at dksX11_readCommand_4 17 rfl rfl)
theorem dX11_readCommand_115 : decode cX11_readCommand 115 = .ok (.goto (-27), 3) := dk_167 255 229 (dk_at dksX11_readCommand_4 20 rfl rfl)
theorem dX11_readCommand_118 : decode cX11_readCommand 118 = .ok (.aload_n 0, 1) := dk_42 (dk_at dksX11_readCommand_4 23 rfl rfl)
theorem dX11_readCommand_119 : decode cX11_readCommand 119 = .ok (.invokevirtual 47, 3) := dk_182 0 47 (dk_at dksX11_readCommand_5 0 rfl rfl)
theorem dX11_readCommand_122 : decode cX11_readCommand 122 = .ok (.istore 4, 2) := dk_54 4 (dk_at dksX11_readCommand_5 3 rfl rfl)
theorem dX11_readCommand_124 : decode cX11_readCommand 124 = .ok (.aload_n 0, 1) := dk_42 (dk_at dksX11_readCommand_5 5 rfl rfl)
theorem dX11_readCommand_125 : decode cX11_readCommand 125 = .ok (.bipush 59, 2) := dk_16 59 (dk_at dksX11_readCommand_5 6 rfl rfl)
theorem dX11_readCommand_127 : decode cX11_readCommand 127 = .ok (.bipush 59, 2) := dk_16 59 (dk_at dksX11_readCommand_5 8 rfl rfl)
theorem dX11_readCommand_129 : decode cX11_readCommand 129 = .ok (.invokevirtual 43, 3) := dk_182 0 43 (dk_at dksX11_readCommand_5 10 rfl rfl)
theorem dX11_readCommand_132 : decode cX11_readCommand 132 = .ok (.istore 5, 2) := dk_54 5 (dk_at dksX11_readCommand_5 13 rfl rfl)
theorem dX11_readCommand_134 : decode cX11_readCommand 134 = .ok (.aload_n 0, 1) := dk_42 (dk_at dksX11_readCommand_5 15 rfl rfl)
theorem dX11_readCommand_135 : decode cX11_readCommand 135 = .ok (.dup, 1) := dk_89 (dk_at dksX11_readCommand_5 16 rfl rfl)
theorem dX11_readCommand_136 : decode cX11_readCommand 136 = .ok (.getfield 29, 3) := dk_180 0 29 (dk_at dksX11_readCommand_5 17 rfl rfl)
theorem dX11_readCommand_139 : decode cX11_readCommand 139 = .ok (.iload 5, 2) := dk_21 5 (dk_at dksX11_readCommand_5 20 rfl rfl)
theorem dX11_readCommand_141 : decode cX11_readCommand 141 = .ok (.ifCond .eq 7, 3) := dk_153 0 7 (dk_at dksX11_readCommand_6 0 rfl rfl)
theorem dX11_readCommand_144 : decode cX11_readCommand 144 = .ok (.iconst 1, 1) := dk_4 (dk_at dksX11_readCommand_6 3 rfl rfl)
theorem dX11_readCommand_145 : decode cX11_readCommand 145 = .ok (.goto 4, 3) := dk_167 0 4 (dk_at dksX11_readCommand_6 4 rfl rfl)
theorem dX11_readCommand_148 : decode cX11_readCommand 148 = .ok (.iconst 0, 1) := dk_3 (dk_at dksX11_readCommand_6 7 rfl rfl)
theorem dX11_readCommand_149 : decode cX11_readCommand 149 = .ok (.iadd, 1) := dk_96 (dk_at dksX11_readCommand_6 8 rfl rfl)
theorem dX11_readCommand_150 : decode cX11_readCommand 150 = .ok (.putfield 29, 3) := dk_181 0 29 (dk_at dksX11_readCommand_6 9 rfl rfl)
theorem dX11_readCommand_153 : decode cX11_readCommand 153 = .ok (.iload 5, 2) := dk_21 5 (dk_at dksX11_readCommand_6 12 rfl rfl)
theorem dX11_readCommand_155 : decode cX11_readCommand 155 = .ok (.ireturn, 1) := dk_172 (dk_at dksX11_readCommand_6 14 rfl rfl)
/-! PageGarden$Text.readCommand()Z -/
abbrev M_X11_readCommand (z0 n0 : Nat) (s' : gS) : gM := (RX11, cX11_readCommand, 6, (some FieldType.boolean), "readCommand", [], 7, z0, n0, s'.2.1, s'.2.2)
abbrev W_X11_readCommand (E : gE) (z0 n0 : Nat) (r : Int32) (s' : gS) (pc : Nat) (L : List (Nat × gV)) (st : List gV) (s : gS) : Prop := gW E (M_X11_readCommand z0 n0 s') (gQm E (M_X11_readCommand z0 n0 s') (.inl (some (vI r))) s') pc L st s
noncomputable def f_X11_readCommand_110 (κ : gK) (F : Nat)   (s : gS) : Option (Int32 × gS) :=
  gB1 (gok .boolean (0 : Int32)) fun _ => some ((0 : Int32), s)
set_option maxHeartbeats 4000000 in
theorem w_X11_readCommand_110 {E : gE} {F z0 n0 : Nat} {r : Int32} {s' : gS}   : ∀   (s : gS), f_X11_readCommand_110 (gk E) F   s = some (r, s') → W_X11_readCommand E z0 n0 r s' 110 [] [] s := by
  intro  s hB
  unfold f_X11_readCommand_110 at hB
  refine gw_iconst (v := (0 : Int32)) (by decide) dX11_readCommand_110 ?_
  obtain ⟨u, hu, hB⟩ := gB1_some hB
  obtain ⟨rfl, rfl⟩ := Prod.mk.inj (Option.some.inj hB)
  exact gw_zret rfl hu rfl rfl dX11_readCommand_111
noncomputable def f_X11_readCommand_149 (κ : gK) (F : Nat)  (l5 : Int32) (t0 : Option Nat) (t1 : Int32) (t2 : Int32) (s : gS) : Option (Int32 × gS) :=
  gB1 (gpf κ s t0 8 0 (.int (t1 + t2))) fun s1 =>
  gB1 (gok .boolean l5) fun _ => some (l5, s1)
set_option maxHeartbeats 4000000 in
theorem w_X11_readCommand_149 {E : gE} {F z0 n0 : Nat} {r : Int32} {s' : gS}   : ∀ (l5 : Int32) (t0 : Option Nat) (t1 : Int32) (t2 : Int32) (s : gS), f_X11_readCommand_149 (gk E) F  l5 t0 t1 t2 s = some (r, s') → W_X11_readCommand E z0 n0 r s' 149 [(5, vI l5)] [vI t2, vI t1, vR t0] s := by
  intro l5 t0 t1 t2 s hB
  unfold f_X11_readCommand_149 at hB
  refine gw_iadd dX11_readCommand_149 ?_
  obtain ⟨s1, hs1, hB⟩ := gB1_some hB
  refine gw_putf (C := RX11) (T := TX11) (N := 5) (k := 0) tyX11 tyX11_ok nmX11 gcl8 (by decide) in_X11 q1332 rfl (tyX11_ok 0 (by decide)) (gNF_i _) hs1 dX11_readCommand_150 ?_
  refine gw_iload 0 rfl dX11_readCommand_153 ?_
  obtain ⟨u, hu, hB⟩ := gB1_some hB
  obtain ⟨rfl, rfl⟩ := Prod.mk.inj (Option.some.inj hB)
  exact gw_zret rfl hu rfl rfl dX11_readCommand_155
noncomputable def f_X11_readCommand_88b (κ : gK) (F : Nat) (k88 : Option Nat → Int32 → Int32 → gS → Option (Int32 × gS)) (l0 : Option Nat) (l3 : Int32) (l4 : Int32) (s : gS) : Option (Int32 × gS) :=
  if l3 ≤ l4 then
    gB1 (gck s l0 8) fun _ =>
    gB2 (f_X11_spaces κ F l0  s) fun v2 s1 =>
    gB1 (gck s1 l0 8) fun _ =>
    gB2 (f_X11_isAt κ F l0 (59 : Int32) (59 : Int32) s1) fun v5 s4 =>
    gB1 (gfI s4 l0 8 0) fun v7 =>
    if v5 = 0 then
      f_X11_readCommand_149 κ F  v5 l0 v7 (0 : Int32) s4
    else
      f_X11_readCommand_149 κ F  v5 l0 v7 (1 : Int32) s4
  else
    gB1 (gck s l0 8) fun _ =>
    gB2 (f_X11_spaces κ F l0  s) fun v9 s8 =>
    if v9 = 0 then
      f_X11_readCommand_110 κ F  s8
    else
      gB1 (gck s8 l0 8) fun _ =>
      gB2 (f_X11_readNumber κ F l0 l4 s8) fun v12 s11 =>
      if v12 = 0 then
        f_X11_readCommand_110 κ F  s11
      else
        k88 l0 l3 (l4 + (1 : Int32)) s11
noncomputable def f_X11_readCommand_88 (κ : gK) (F : Nat)  : Nat → Option Nat → Int32 → Int32 → gS → Option (Int32 × gS)
  | 0 => fun _ _ _ _ => none
  | n + 1 => f_X11_readCommand_88b κ F  (f_X11_readCommand_88 κ F  n)
set_option maxHeartbeats 4000000 in
theorem w_X11_readCommand_88b {E : gE} {F z0 n0 : Nat} {r : Int32} {s' : gS} {k88 : Option Nat → Int32 → Int32 → gS → Option (Int32 × gS)} (hk88 : ∀ (l0 : Option Nat) (l3 : Int32) (l4 : Int32) (s : gS), k88 l0 l3 l4 s = some (r, s') → W_X11_readCommand E z0 n0 r s' 88 [(0, vR l0), (3, vI l3), (4, vI l4)] [] s) : ∀ (l0 : Option Nat) (l3 : Int32) (l4 : Int32)  (s : gS), f_X11_readCommand_88b (gk E) F k88 l0 l3 l4 s = some (r, s') → W_X11_readCommand E z0 n0 r s' 88 [(0, vR l0), (3, vI l3), (4, vI l4)] [] s := by
  intro l0 l3 l4 s hB
  unfold f_X11_readCommand_88b at hB
  refine gw_iload 2 rfl dX11_readCommand_88 ?_
  refine gw_iload_n 1 rfl dX11_readCommand_90 ?_
  refine gw_icmp_ge (tgt := 118) dX11_readCommand_91 (by decide) (fun hcnd => ?_) (fun hcnd => ?_)
  · rw [if_pos hcnd] at hB
    refine gw_aload_n 0 rfl dX11_readCommand_118 ?_
    obtain ⟨u0, hu3, hB⟩ := gB1_some hB
    obtain ⟨v2, s1, hv2, hB⟩ := gB2_some hB
    refine gw_callV (y := yX11_spaces) (lw_V q1353 q1355 qs5 q165 q1356) hdV_X11_spaces gcl8 hu3 (As := []) (rest := []) (m_X11_spaces _ _ _ _ hv2) (Nat.le_of_ble_eq_true rfl) (Nat.le_of_ble_eq_true rfl) rfl (Nat.le_of_ble_eq_true rfl) dX11_readCommand_119 (gCont_i ?_)
    refine gw_istore (L' := [(4, vI v2), (0, vR l0), (3, vI l3)]) (Nat.le_of_ble_eq_true rfl) rfl dX11_readCommand_122 ?_
    refine gw_aload_n 1 rfl dX11_readCommand_124 ?_
    refine gw_bipush (v := (59 : Int32)) (by decide) dX11_readCommand_125 ?_
    refine gw_bipush (v := (59 : Int32)) (by decide) dX11_readCommand_127 ?_
    obtain ⟨u0, hu6, hB⟩ := gB1_some hB
    obtain ⟨v5, s4, hv5, hB⟩ := gB2_some hB
    refine gw_callV (y := yX11_isAt) (lw_V q1357 q1359 qs6 q165 q1360) hdV_X11_isAt gcl8 hu6 (As := [vI (59 : Int32), vI (59 : Int32)]) (rest := []) (m_X11_isAt _ _ _ _ _ _ hv5) (Nat.le_of_ble_eq_true rfl) (Nat.le_of_ble_eq_true rfl) rfl (Nat.le_of_ble_eq_true rfl) dX11_readCommand_129 (gCont_i ?_)
    refine gw_istore (L' := [(5, vI v5), (4, vI v2), (0, vR l0), (3, vI l3)]) (Nat.le_of_ble_eq_true rfl) rfl dX11_readCommand_132 ?_
    refine gw_aload_n 2 rfl dX11_readCommand_134 ?_
    refine gw_dup rfl dX11_readCommand_135 ?_
    obtain ⟨v7, hv7, hB⟩ := gB1_some hB
    refine gw_getf (C := RX11) (T := TX11) (N := 5) (k := 0) gcl8 (by decide) in_X11 q1332 (gfI_spec hv7) dX11_readCommand_136 ?_
    refine gw_iload 0 rfl dX11_readCommand_139 ?_
    refine gw_if_eq (tgt := 148) dX11_readCommand_141 (by decide) (fun hcnd => ?_) (fun hcnd => ?_)
    · rw [if_pos hcnd] at hB
      refine gw_iconst (v := (0 : Int32)) (by decide) dX11_readCommand_148 ?_
      exact gw_sub [0] rfl (w_X11_readCommand_149  _ _ _ _ _ hB)
    · rw [if_neg hcnd] at hB
      refine gw_iconst (v := (1 : Int32)) (by decide) dX11_readCommand_144 ?_
      refine gw_goto (tgt := 149) dX11_readCommand_145 (by decide) ?_
      exact gw_sub [0] rfl (w_X11_readCommand_149  _ _ _ _ _ hB)
  · rw [if_neg hcnd] at hB
    refine gw_aload_n 0 rfl dX11_readCommand_94 ?_
    obtain ⟨u0, hu10, hB⟩ := gB1_some hB
    obtain ⟨v9, s8, hv9, hB⟩ := gB2_some hB
    refine gw_callV (y := yX11_spaces) (lw_V q1353 q1355 qs5 q165 q1356) hdV_X11_spaces gcl8 hu10 (As := []) (rest := []) (m_X11_spaces _ _ _ _ hv9) (Nat.le_of_ble_eq_true rfl) (Nat.le_of_ble_eq_true rfl) rfl (Nat.le_of_ble_eq_true rfl) dX11_readCommand_95 (gCont_i ?_)
    refine gw_if_eq (tgt := 110) dX11_readCommand_98 (by decide) (fun hcnd => ?_) (fun hcnd => ?_)
    · rw [if_pos hcnd] at hB
      exact gw_sub [] rfl (w_X11_readCommand_110   _ hB)
    · rw [if_neg hcnd] at hB
      refine gw_aload_n 0 rfl dX11_readCommand_101 ?_
      refine gw_iload 2 rfl dX11_readCommand_102 ?_
      obtain ⟨u0, hu13, hB⟩ := gB1_some hB
      obtain ⟨v12, s11, hv12, hB⟩ := gB2_some hB
      refine gw_callV (y := yX11_readNumber) (lw_V q1405 q1407 qs8 q165 q1408) hdV_X11_readNumber gcl8 hu13 (As := [vI l4]) (rest := []) (m_X11_readNumber _ _ _ _ _ hv12) (Nat.le_of_ble_eq_true rfl) (Nat.le_of_ble_eq_true rfl) rfl (Nat.le_of_ble_eq_true rfl) dX11_readCommand_104 (gCont_i ?_)
      refine gw_if_ne (tgt := 112) dX11_readCommand_107 (by decide) (fun hcnd => ?_) (fun hcnd => ?_)
      · rw [if_neg hcnd] at hB
        refine gw_iinc (w := (1 : Int32)) (L' := [(4, vI (l4 + (1 : Int32))), (0, vR l0), (3, vI l3)]) 2 rfl (by decide) (Nat.le_of_ble_eq_true rfl) rfl dX11_readCommand_112 ?_
        refine gw_goto (tgt := 88) dX11_readCommand_115 (by decide) ?_
        exact gw_sub [1, 2, 0] rfl (hk88 _ _ _ _ hB)
      · rw [if_pos hcnd] at hB
        exact gw_sub [] rfl (w_X11_readCommand_110   _ hB)
theorem w_X11_readCommand_88 {E : gE} {F z0 n0 : Nat} {r : Int32} {s' : gS}   : ∀ (n : Nat) (l0 : Option Nat) (l3 : Int32) (l4 : Int32)  (s : gS), f_X11_readCommand_88 (gk E) F  n l0 l3 l4 s = some (r, s') → W_X11_readCommand E z0 n0 r s' 88 [(0, vR l0), (3, vI l3), (4, vI l4)] [] s := by
  intro n
  induction n with
  | zero => intro l0 l3 l4 s hB; cases hB
  | succ n ih => intro l0 l3 l4 s hB; exact w_X11_readCommand_88b ih l0 l3 l4 s hB
noncomputable def f_X11_readCommand_13b (κ : gK) (F : Nat) (k13 : Option Nat → Int32 → Option Nat → gS → Option (Int32 × gS)) (l0 : Option Nat) (l1 : Int32) (l2 : Option Nat) (s : gS) : Option (Int32 × gS) :=
  gB1 (gck s l0 8) fun _ =>
  gB2 (f_X11_isAt κ F l0 (97 : Int32) (122 : Int32) s) fun v2 s1 =>
  if v2 = 0 then
    gB1 (gck s1 l2 17) fun _ =>
    gB2 (f_J13_toString κ F l2  s1) fun v5 s4 =>
    gB1 (gpf κ s4 l0 8 2 (va_rf v5)) fun s7 =>
    gB1 (gfR s7 l0 8 2) fun v8 =>
    gB2 (f_X1_numbersOf κ F v8 s7) fun v10 s9 =>
    if v10 = (-1000 : Int32) then
      gB1 (gpf κ s9 l0 8 0 (.int l1)) fun s11 =>
      gB1 (gok .boolean (0 : Int32)) fun _ => some ((0 : Int32), s11)
    else
      f_X11_readCommand_88 κ F  F l0 v10 (0 : Int32) s9
  else
    gB1 (gfR s1 l0 8 4) fun v12 =>
    gB1 (gfR s1 v12 0 2) fun v13 =>
    gB1 (gfI s1 l0 8 0) fun v14 =>
    gB1 (gaI s1 v13 2 v14) fun v15 =>
    gB1 (gck s1 l2 17) fun _ =>
    gB2 (f_J13_append_3 κ F l2 ((v15.toUInt32 % 65536).toInt32) s1) fun v17 s16 =>
    gB1 (gfI s16 l0 8 0) fun v19 =>
    gB1 (gpf κ s16 l0 8 0 (.int (v19 + (1 : Int32)))) fun s20 =>
    k13 l0 l1 l2 s20
noncomputable def f_X11_readCommand_13 (κ : gK) (F : Nat)  : Nat → Option Nat → Int32 → Option Nat → gS → Option (Int32 × gS)
  | 0 => fun _ _ _ _ => none
  | n + 1 => f_X11_readCommand_13b κ F  (f_X11_readCommand_13 κ F  n)
set_option maxHeartbeats 4000000 in
theorem w_X11_readCommand_13b {E : gE} {F z0 n0 : Nat} {r : Int32} {s' : gS} {k13 : Option Nat → Int32 → Option Nat → gS → Option (Int32 × gS)} (hk13 : ∀ (l0 : Option Nat) (l1 : Int32) (l2 : Option Nat) (s : gS), k13 l0 l1 l2 s = some (r, s') → W_X11_readCommand E z0 n0 r s' 13 [(0, vR l0), (1, vI l1), (2, vR l2)] [] s) : ∀ (l0 : Option Nat) (l1 : Int32) (l2 : Option Nat)  (s : gS), f_X11_readCommand_13b (gk E) F k13 l0 l1 l2 s = some (r, s') → W_X11_readCommand E z0 n0 r s' 13 [(0, vR l0), (1, vI l1), (2, vR l2)] [] s := by
  intro l0 l1 l2 s hB
  unfold f_X11_readCommand_13b at hB
  refine gw_aload_n 0 rfl dX11_readCommand_13 ?_
  refine gw_bipush (v := (97 : Int32)) (by decide) dX11_readCommand_14 ?_
  refine gw_bipush (v := (122 : Int32)) (by decide) dX11_readCommand_16 ?_
  obtain ⟨u0, hu3, hB⟩ := gB1_some hB
  obtain ⟨v2, s1, hv2, hB⟩ := gB2_some hB
  refine gw_callV (y := yX11_isAt) (lw_V q1357 q1359 qs6 q165 q1360) hdV_X11_isAt gcl8 hu3 (As := [vI (97 : Int32), vI (122 : Int32)]) (rest := []) (m_X11_isAt _ _ _ _ _ _ hv2) (Nat.le_of_ble_eq_true rfl) (Nat.le_of_ble_eq_true rfl) rfl (Nat.le_of_ble_eq_true rfl) dX11_readCommand_18 (gCont_i ?_)
  refine gw_if_eq (tgt := 55) dX11_readCommand_21 (by decide) (fun hcnd => ?_) (fun hcnd => ?_)
  · rw [if_pos hcnd] at hB
    refine gw_aload_n 0 rfl dX11_readCommand_55 ?_
    refine gw_aload_n 2 rfl dX11_readCommand_56 ?_
    obtain ⟨u0, hu6, hB⟩ := gB1_some hB
    obtain ⟨v5, s4, hv5, hB⟩ := gB2_some hB
    refine gw_callV (y := yJ13_toString) (lw_V q1392 q653 q654 q128 q655) hdV_J13_toString gcl17 hu6 (As := []) (rest := [vR l0]) (m_J13_toString _ _ _ _ hv5) (Nat.le_of_ble_eq_true rfl) (Nat.le_of_ble_eq_true rfl) rfl (Nat.le_of_ble_eq_true rfl) dX11_readCommand_57 (gCont_i ?_)
    obtain ⟨s7, hs7, hB⟩ := gB1_some hB
    refine gw_putf (C := RX11) (T := TX11) (N := 5) (k := 2) tyX11 tyX11_ok nmX11 gcl8 (by decide) in_X11 q1335 rfl (tyX11_ok 2 (by decide)) (gNF_o _ _) hs7 dX11_readCommand_60 ?_
    refine gw_aload_n 0 rfl dX11_readCommand_63 ?_
    obtain ⟨v8, hv8, hB⟩ := gB1_some hB
    refine gw_getf (C := RX11) (T := TX11) (N := 5) (k := 2) gcl8 (by decide) in_X11 q1335 (gfR_spec hv8) dX11_readCommand_64 ?_
    obtain ⟨v10, s9, hv10, hB⟩ := gB2_some hB
    refine gw_callSN (y := yX1_numbersOf) (lw_meth q1395) q108 q1393 q1394 hdS_X1_numbersOf (As := [vR v8]) (rest := []) (m_X1_numbersOf _ _ _ _ hv10) (Nat.le_of_ble_eq_true rfl) (Nat.le_of_ble_eq_true rfl) rfl (Nat.le_of_ble_eq_true rfl) dX11_readCommand_67 (gCont_i ?_)
    refine gw_istore_n (L' := [(3, vI v10), (0, vR l0), (1, vI l1), (2, vR l2)]) (Nat.le_of_ble_eq_true rfl) rfl dX11_readCommand_70 ?_
    refine gw_iload_n 0 rfl dX11_readCommand_71 ?_
    refine gw_sipush (v := (-1000 : Int32)) (by decide) dX11_readCommand_72 ?_
    refine gw_icmp_ne (tgt := 85) dX11_readCommand_75 (by decide) (fun hcnd => ?_) (fun hcnd => ?_)
    · rw [if_neg hcnd] at hB
      refine gw_iconst (v := (0 : Int32)) (by decide) dX11_readCommand_85 ?_
      refine gw_istore (L' := [(4, vI (0 : Int32)), (3, vI v10), (0, vR l0), (1, vI l1), (2, vR l2)]) (Nat.le_of_ble_eq_true rfl) rfl dX11_readCommand_86 ?_
      exact gw_sub [2, 1, 0] rfl (w_X11_readCommand_88  F _ _ _ _ hB)
    · rw [if_pos hcnd] at hB
      refine gw_aload_n 1 rfl dX11_readCommand_78 ?_
      refine gw_iload_n 2 rfl dX11_readCommand_79 ?_
      obtain ⟨s11, hs11, hB⟩ := gB1_some hB
      refine gw_putf (C := RX11) (T := TX11) (N := 5) (k := 0) tyX11 tyX11_ok nmX11 gcl8 (by decide) in_X11 q1332 rfl (tyX11_ok 0 (by decide)) (gNF_i _) hs11 dX11_readCommand_80 ?_
      refine gw_iconst (v := (0 : Int32)) (by decide) dX11_readCommand_83 ?_
      obtain ⟨u, hu, hB⟩ := gB1_some hB
      obtain ⟨rfl, rfl⟩ := Prod.mk.inj (Option.some.inj hB)
      exact gw_zret rfl hu rfl rfl dX11_readCommand_84
  · rw [if_neg hcnd] at hB
    refine gw_aload_n 2 rfl dX11_readCommand_24 ?_
    refine gw_aload_n 0 rfl dX11_readCommand_25 ?_
    obtain ⟨v12, hv12, hB⟩ := gB1_some hB
    refine gw_getf (C := RX11) (T := TX11) (N := 5) (k := 4) gcl8 (by decide) in_X11 q1337 (gfR_spec hv12) dX11_readCommand_26 ?_
    obtain ⟨v13, hv13, hB⟩ := gB1_some hB
    refine gw_getfN (C := RX1) (T := TX1) (N := 4) (k := 2) gcl0 (by decide) in_X1 q1273 (gfR_spec hv13) dX11_readCommand_29 ?_
    refine gw_aload_n 0 rfl dX11_readCommand_32 ?_
    obtain ⟨v14, hv14, hB⟩ := gB1_some hB
    refine gw_getf (C := RX11) (T := TX11) (N := 5) (k := 0) gcl8 (by decide) in_X11 q1332 (gfI_spec hv14) dX11_readCommand_33 ?_
    obtain ⟨v15, hv15, hB⟩ := gB1_some hB
    refine gw_baload hv15 dX11_readCommand_36 ?_
    refine gw_i2c dX11_readCommand_37 ?_
    obtain ⟨u0, hu18, hB⟩ := gB1_some hB
    obtain ⟨v17, s16, hv17, hB⟩ := gB2_some hB
    refine gw_callV (y := yJ13_append_3) (lw_V q1370 q1371 q1372 q128 q1373) hdV_J13_append_3 gcl17 hu18 (As := [vI ((v15.toUInt32 % 65536).toInt32)]) (rest := []) (m_J13_append_3 _ _ _ _ _ hv17) (Nat.le_of_ble_eq_true rfl) (Nat.le_of_ble_eq_true rfl) rfl (Nat.le_of_ble_eq_true rfl) dX11_readCommand_38 (gCont_i ?_)
    refine gw_pop rfl dX11_readCommand_41 ?_
    refine gw_aload_n 0 rfl dX11_readCommand_42 ?_
    refine gw_dup rfl dX11_readCommand_43 ?_
    obtain ⟨v19, hv19, hB⟩ := gB1_some hB
    refine gw_getf (C := RX11) (T := TX11) (N := 5) (k := 0) gcl8 (by decide) in_X11 q1332 (gfI_spec hv19) dX11_readCommand_44 ?_
    refine gw_iconst (v := (1 : Int32)) (by decide) dX11_readCommand_47 ?_
    refine gw_iadd dX11_readCommand_48 ?_
    obtain ⟨s20, hs20, hB⟩ := gB1_some hB
    refine gw_putf (C := RX11) (T := TX11) (N := 5) (k := 0) tyX11 tyX11_ok nmX11 gcl8 (by decide) in_X11 q1332 rfl (tyX11_ok 0 (by decide)) (gNF_i _) hs20 dX11_readCommand_49 ?_
    refine gw_goto (tgt := 13) dX11_readCommand_52 (by decide) ?_
    exact gw_sub [0, 1, 2] rfl (hk13 _ _ _ _ hB)
theorem w_X11_readCommand_13 {E : gE} {F z0 n0 : Nat} {r : Int32} {s' : gS}   : ∀ (n : Nat) (l0 : Option Nat) (l1 : Int32) (l2 : Option Nat)  (s : gS), f_X11_readCommand_13 (gk E) F  n l0 l1 l2 s = some (r, s') → W_X11_readCommand E z0 n0 r s' 13 [(0, vR l0), (1, vI l1), (2, vR l2)] [] s := by
  intro n
  induction n with
  | zero => intro l0 l1 l2 s hB; cases hB
  | succ n ih => intro l0 l1 l2 s hB; exact w_X11_readCommand_13b ih l0 l1 l2 s hB
noncomputable def f_X11_readCommand_0 (κ : gK) (F : Nat)  (l0 : Option Nat) (s : gS) : Option (Int32 × gS) :=
  gB1 (gfI s l0 8 0) fun v1 =>
  gB2 (gnw s 17 g0_J13 4) fun v2 s3 =>
  gB1 (gsm v2) fun _ =>
  gB2 (f_J13_init κ F v2  s3) fun v5 s4 =>
  f_X11_readCommand_13 κ F  F l0 v1 v2 s4
set_option maxHeartbeats 4000000 in
theorem w_X11_readCommand_0 {E : gE} {F z0 n0 : Nat} {r : Int32} {s' : gS}   : ∀ (l0 : Option Nat)  (s : gS), f_X11_readCommand_0 (gk E) F  l0 s = some (r, s') → W_X11_readCommand E z0 n0 r s' 0 [(0, vR l0)] [] s := by
  intro l0 s hB
  unfold f_X11_readCommand_0 at hB
  refine gw_aload_n 0 rfl dX11_readCommand_0 ?_
  obtain ⟨v1, hv1, hB⟩ := gB1_some hB
  refine gw_getf (C := RX11) (T := TX11) (N := 5) (k := 0) gcl8 (by decide) in_X11 q1332 (gfI_spec hv1) dX11_readCommand_1 ?_
  refine gw_istore_n (L' := [(1, vI v1), (0, vR l0)]) (Nat.le_of_ble_eq_true rfl) rfl dX11_readCommand_4 ?_
  obtain ⟨v2, s3, hv2, hB⟩ := gB2_some hB
  refine gw_new (C := RJ13) (T := TJ13) (N := 4) tyJ13 tyJ13_ok gcl17 in_J13 q1368 q485 q128 g0_J13_ok hv2 dX11_readCommand_5 ?_
  refine gw_dup rfl dX11_readCommand_8 ?_
  obtain ⟨u0, hu6, hB⟩ := gB1_some hB
  obtain ⟨v5, s4, hv5, hB⟩ := gB2_some hB
  refine gw_callI (y := yJ13_init) (lw_meth q488) q128 q1369 q487 rfl hdS_J13_init (gsm_spec hu6) (As := []) (rest := [vR v2]) (m_J13_init _ _ _ _ hv5) (Nat.le_of_ble_eq_true rfl) (Nat.le_of_ble_eq_true rfl) rfl (Nat.le_of_ble_eq_true rfl) dX11_readCommand_9 (gCont_v ?_)
  refine gw_astore_n (L' := [(2, vR v2), (1, vI v1), (0, vR l0)]) (Nat.le_of_ble_eq_true rfl) rfl dX11_readCommand_12 ?_
  exact gw_sub [2, 1, 0] rfl (w_X11_readCommand_13  F _ _ _ _ hB)
noncomputable def f_X11_readCommand (κ : gK) (F : Nat) (a0 : Option Nat) (s : gS) : Option (Int32 × gS) := f_X11_readCommand_0 κ F a0 s
theorem m_X11_readCommand {E : gE} {F : Nat} (a0 : Option Nat) (s : gS) (r : Int32) (s' : gS) (h : f_X11_readCommand (gk E) F a0 s = some (r, s')) : gCT E 7 yX11_readCommand (ws_ yX11_readCommand cX11_readCommand 6 (some FieldType.boolean)) [vR a0] s (.inl (some (vI r))) s' := by
  refine gCT_of2 (fun h => absurd h (by decide)) (plainFor_of_name (by decide)) (Nat.le_of_ble_eq_true rfl) ?_
  exact gw_sub [0] rfl (w_X11_readCommand_0 _ _ h)
def dkwX11_next_2 : List UInt8 := [172]
abbrev dktX11_next_2 : List UInt8 := dkwX11_next_2 ++ []
def dkwX11_next_1 : List UInt8 := [17, 252, 24, 159, 0, 5, 3, 172, 42, 182, 0, 51, 154, 0, 11, 42, 42, 180, 0, 29, 181, 0, 15, 4]
abbrev dktX11_next_1 : List UInt8 := dkwX11_next_1 ++ dktX11_next_2
def dkwX11_next_0 : List UInt8 := [42, 182, 0, 47, 60, 42, 180, 0, 29, 42, 180, 0, 3, 180, 0, 32, 159, 0, 13, 42, 180, 0, 15]
abbrev dktX11_next_0 : List UInt8 := dkwX11_next_0 ++ dktX11_next_1
theorem dksX11_next_0 : cX11_next.data.toList.drop 0 = dktX11_next_0 := by decide +kernel
theorem dksX11_next_1 : cX11_next.data.toList.drop 23 = dktX11_next_1 := dk_seg dksX11_next_0 23 rfl rfl
theorem dksX11_next_2 : cX11_next.data.toList.drop 47 = dktX11_next_2 := dk_seg dksX11_next_1 24 rfl rfl
theorem dX11_next_0 : decode cX11_next 0 = .ok (.aload_n 0, 1) := dk_42 (dk_at dksX11_next_0 0 rfl rfl)
theorem dX11_next_1 : decode cX11_next 1 = .ok (.invokevirtual 47, 3) := dk_182 0 47 (dk_at dksX11_next_0 1 rfl rfl)
theorem dX11_next_4 : decode cX11_next 4 = .ok (.istore_n 1, 1) := dk_60 (dk_at dksX11_next_0 4 rfl rfl)
theorem dX11_next_5 : decode cX11_next 5 = .ok (.aload_n 0, 1) := dk_42 (dk_at dksX11_next_0 5 rfl rfl)
theorem dX11_next_6 : decode cX11_next 6 = .ok (.getfield 29, 3) := dk_180 0 29 (dk_at dksX11_next_0 6 rfl rfl)
theorem dX11_next_9 : decode cX11_next 9 = .ok (.aload_n 0, 1) := dk_42 (dk_at dksX11_next_0 9 rfl rfl)
theorem dX11_next_10 : decode cX11_next 10 = .ok (.getfield 3, 3) := dk_180 0 3 (dk_at dksX11_next_0 10 rfl rfl)
theorem dX11_next_13 : decode cX11_next 13 = .ok (.getfield 32, 3) := dk_180 0 32 (dk_at dksX11_next_0 13 rfl rfl)
theorem dX11_next_16 : decode cX11_next 16 = .ok (.if_icmp .eq 13, 3) := dk_159 0 13 (dk_at dksX11_next_0 16 rfl rfl)
theorem dX11_next_19 : decode cX11_next 19 = .ok (.aload_n 0, 1) := dk_42 (dk_at dksX11_next_0 19 rfl rfl)
theorem dX11_next_20 : decode cX11_next 20 = .ok (.getfield 15, 3) := dk_180 0 15 (dk_at dksX11_next_0 20 rfl rfl)
theorem dX11_next_23 : decode cX11_next 23 = .ok (.sipush (-1000), 3) := dk_17 252 24 (dk_at dksX11_next_1 0 rfl rfl)
theorem dX11_next_26 : decode cX11_next 26 = .ok (.if_icmp .eq 5, 3) := dk_159 0 5 (dk_at dksX11_next_1 3 rfl rfl)
theorem dX11_next_29 : decode cX11_next 29 = .ok (.iconst 0, 1) := dk_3 (dk_at dksX11_next_1 6 rfl rfl)
theorem dX11_next_30 : decode cX11_next 30 = .ok (.ireturn, 1) := dk_172 (dk_at dksX11_next_1 7 rfl rfl)
theorem dX11_next_31 : decode cX11_next 31 = .ok (.aload_n 0, 1) := dk_42 (dk_at dksX11_next_1 8 rfl rfl)
theorem dX11_next_32 : decode cX11_next 32 = .ok (.invokevirtual 51, 3) := dk_182 0 51 (dk_at dksX11_next_1 9 rfl rfl)
theorem dX11_next_35 : decode cX11_next 35 = .ok (.ifCond .ne 11, 3) := dk_154 0 11 (dk_at dksX11_next_1 12 rfl rfl)
theorem dX11_next_38 : decode cX11_next 38 = .ok (.aload_n 0, 1) := dk_42 (dk_at dksX11_next_1 15 rfl rfl)
theorem dX11_next_39 : decode cX11_next 39 = .ok (.aload_n 0, 1) := dk_42 (dk_at dksX11_next_1 16 rfl rfl)
theorem dX11_next_40 : decode cX11_next 40 = .ok (.getfield 29, 3) := dk_180 0 29 (dk_at dksX11_next_1 17 rfl rfl)
theorem dX11_next_43 : decode cX11_next 43 = .ok (.putfield 15, 3) := dk_181 0 15 (dk_at dksX11_next_1 20 rfl rfl)
theorem dX11_next_46 : decode cX11_next 46 = .ok (.iconst 1, 1) := dk_4 (dk_at dksX11_next_1 23 rfl rfl)
theorem dX11_next_47 : decode cX11_next 47 = .ok (.ireturn, 1) := dk_172 (dk_at dksX11_next_2 0 rfl rfl)
/-! PageGarden$Text.next()Z -/
abbrev M_X11_next (z0 n0 : Nat) (s' : gS) : gM := (RX11, cX11_next, 2, (some FieldType.boolean), "next", [], 8, z0, n0, s'.2.1, s'.2.2)
abbrev W_X11_next (E : gE) (z0 n0 : Nat) (r : Int32) (s' : gS) (pc : Nat) (L : List (Nat × gV)) (st : List gV) (s : gS) : Prop := gW E (M_X11_next z0 n0 s') (gQm E (M_X11_next z0 n0 s') (.inl (some (vI r))) s') pc L st s
noncomputable def f_X11_next_29 (κ : gK) (F : Nat)   (s : gS) : Option (Int32 × gS) :=
  gB1 (gok .boolean (0 : Int32)) fun _ => some ((0 : Int32), s)
set_option maxHeartbeats 4000000 in
theorem w_X11_next_29 {E : gE} {F z0 n0 : Nat} {r : Int32} {s' : gS}   : ∀   (s : gS), f_X11_next_29 (gk E) F   s = some (r, s') → W_X11_next E z0 n0 r s' 29 [] [] s := by
  intro  s hB
  unfold f_X11_next_29 at hB
  refine gw_iconst (v := (0 : Int32)) (by decide) dX11_next_29 ?_
  obtain ⟨u, hu, hB⟩ := gB1_some hB
  obtain ⟨rfl, rfl⟩ := Prod.mk.inj (Option.some.inj hB)
  exact gw_zret rfl hu rfl rfl dX11_next_30
noncomputable def f_X11_next_46 (κ : gK) (F : Nat)   (s : gS) : Option (Int32 × gS) :=
  gB1 (gok .boolean (1 : Int32)) fun _ => some ((1 : Int32), s)
set_option maxHeartbeats 4000000 in
theorem w_X11_next_46 {E : gE} {F z0 n0 : Nat} {r : Int32} {s' : gS}   : ∀   (s : gS), f_X11_next_46 (gk E) F   s = some (r, s') → W_X11_next E z0 n0 r s' 46 [] [] s := by
  intro  s hB
  unfold f_X11_next_46 at hB
  refine gw_iconst (v := (1 : Int32)) (by decide) dX11_next_46 ?_
  obtain ⟨u, hu, hB⟩ := gB1_some hB
  obtain ⟨rfl, rfl⟩ := Prod.mk.inj (Option.some.inj hB)
  exact gw_zret rfl hu rfl rfl dX11_next_47
noncomputable def f_X11_next_0 (κ : gK) (F : Nat)  (l0 : Option Nat) (s : gS) : Option (Int32 × gS) :=
  gB1 (gck s l0 8) fun _ =>
  gB2 (f_X11_spaces κ F l0  s) fun v2 s1 =>
  gB1 (gfI s1 l0 8 0) fun v4 =>
  gB1 (gfR s1 l0 8 4) fun v5 =>
  gB1 (gfI s1 v5 0 3) fun v6 =>
  if v4 = v6 then
    f_X11_next_29 κ F  s1
  else
    gB1 (gfI s1 l0 8 1) fun v7 =>
    if v7 = (-1000 : Int32) then
      gB1 (gck s1 l0 8) fun _ =>
      gB2 (f_X11_readCommand κ F l0  s1) fun v9 s8 =>
      if v9 = 0 then
        gB1 (gfI s8 l0 8 0) fun v11 =>
        gB1 (gpf κ s8 l0 8 1 (.int v11)) fun s12 =>
        f_X11_next_46 κ F  s12
      else
        f_X11_next_46 κ F  s8
    else
      f_X11_next_29 κ F  s1
set_option maxHeartbeats 4000000 in
theorem w_X11_next_0 {E : gE} {F z0 n0 : Nat} {r : Int32} {s' : gS}   : ∀ (l0 : Option Nat)  (s : gS), f_X11_next_0 (gk E) F  l0 s = some (r, s') → W_X11_next E z0 n0 r s' 0 [(0, vR l0)] [] s := by
  intro l0 s hB
  unfold f_X11_next_0 at hB
  refine gw_aload_n 0 rfl dX11_next_0 ?_
  obtain ⟨u0, hu3, hB⟩ := gB1_some hB
  obtain ⟨v2, s1, hv2, hB⟩ := gB2_some hB
  refine gw_callV (y := yX11_spaces) (lw_V q1353 q1355 qs5 q165 q1356) hdV_X11_spaces gcl8 hu3 (As := []) (rest := []) (m_X11_spaces _ _ _ _ hv2) (Nat.le_of_ble_eq_true rfl) (Nat.le_of_ble_eq_true rfl) rfl (Nat.le_of_ble_eq_true rfl) dX11_next_1 (gCont_i ?_)
  refine gw_istore_n (L' := [(1, vI v2), (0, vR l0)]) (Nat.le_of_ble_eq_true rfl) rfl dX11_next_4 ?_
  refine gw_aload_n 1 rfl dX11_next_5 ?_
  obtain ⟨v4, hv4, hB⟩ := gB1_some hB
  refine gw_getf (C := RX11) (T := TX11) (N := 5) (k := 0) gcl8 (by decide) in_X11 q1332 (gfI_spec hv4) dX11_next_6 ?_
  refine gw_aload_n 1 rfl dX11_next_9 ?_
  obtain ⟨v5, hv5, hB⟩ := gB1_some hB
  refine gw_getf (C := RX11) (T := TX11) (N := 5) (k := 4) gcl8 (by decide) in_X11 q1337 (gfR_spec hv5) dX11_next_10 ?_
  obtain ⟨v6, hv6, hB⟩ := gB1_some hB
  refine gw_getfN (C := RX1) (T := TX1) (N := 4) (k := 3) gcl0 (by decide) in_X1 q1275 (gfI_spec hv6) dX11_next_13 ?_
  refine gw_icmp_eq (tgt := 29) dX11_next_16 (by decide) (fun hcnd => ?_) (fun hcnd => ?_)
  · rw [if_pos hcnd] at hB
    exact gw_sub [] rfl (w_X11_next_29   _ hB)
  · rw [if_neg hcnd] at hB
    refine gw_aload_n 1 rfl dX11_next_19 ?_
    obtain ⟨v7, hv7, hB⟩ := gB1_some hB
    refine gw_getf (C := RX11) (T := TX11) (N := 5) (k := 1) gcl8 (by decide) in_X11 q1333 (gfI_spec hv7) dX11_next_20 ?_
    refine gw_sipush (v := (-1000 : Int32)) (by decide) dX11_next_23 ?_
    refine gw_icmp_eq (tgt := 31) dX11_next_26 (by decide) (fun hcnd => ?_) (fun hcnd => ?_)
    · rw [if_pos hcnd] at hB
      refine gw_aload_n 1 rfl dX11_next_31 ?_
      obtain ⟨u0, hu10, hB⟩ := gB1_some hB
      obtain ⟨v9, s8, hv9, hB⟩ := gB2_some hB
      refine gw_callV (y := yX11_readCommand) (lw_V q1364 q1366 qs7 q165 q1367) hdV_X11_readCommand gcl8 hu10 (As := []) (rest := []) (m_X11_readCommand _ _ _ _ hv9) (Nat.le_of_ble_eq_true rfl) (Nat.le_of_ble_eq_true rfl) rfl (Nat.le_of_ble_eq_true rfl) dX11_next_32 (gCont_i ?_)
      refine gw_if_ne (tgt := 46) dX11_next_35 (by decide) (fun hcnd => ?_) (fun hcnd => ?_)
      · rw [if_neg hcnd] at hB
        exact gw_sub [] rfl (w_X11_next_46   _ hB)
      · rw [if_pos hcnd] at hB
        refine gw_aload_n 1 rfl dX11_next_38 ?_
        refine gw_aload_n 1 rfl dX11_next_39 ?_
        obtain ⟨v11, hv11, hB⟩ := gB1_some hB
        refine gw_getf (C := RX11) (T := TX11) (N := 5) (k := 0) gcl8 (by decide) in_X11 q1332 (gfI_spec hv11) dX11_next_40 ?_
        obtain ⟨s12, hs12, hB⟩ := gB1_some hB
        refine gw_putf (C := RX11) (T := TX11) (N := 5) (k := 1) tyX11 tyX11_ok nmX11 gcl8 (by decide) in_X11 q1333 rfl (tyX11_ok 1 (by decide)) (gNF_i _) hs12 dX11_next_43 ?_
        exact gw_sub [] rfl (w_X11_next_46   _ hB)
    · rw [if_neg hcnd] at hB
      exact gw_sub [] rfl (w_X11_next_29   _ hB)
noncomputable def f_X11_next (κ : gK) (F : Nat) (a0 : Option Nat) (s : gS) : Option (Int32 × gS) := f_X11_next_0 κ F a0 s
theorem m_X11_next {E : gE} {F : Nat} (a0 : Option Nat) (s : gS) (r : Int32) (s' : gS) (h : f_X11_next (gk E) F a0 s = some (r, s')) : gCT E 8 yX11_next (ws_ yX11_next cX11_next 2 (some FieldType.boolean)) [vR a0] s (.inl (some (vI r))) s' := by
  refine gCT_of2 (fun h => absurd h (by decide)) (plainFor_of_name (by decide)) (Nat.le_of_ble_eq_true rfl) ?_
  exact gw_sub [0] rfl (w_X11_next_0 _ _ h)
def dkwX1_carryOut_9 : List UInt8 := [167, 0, 14, 42, 182, 0, 54, 167, 0, 7, 42, 182, 0, 56, 172]
abbrev dktX1_carryOut_9 : List UInt8 := dkwX1_carryOut_9 ++ []
def dkwX1_carryOut_8 : List UInt8 := [44, 3, 46, 182, 0, 48, 167, 0, 31, 42, 44, 3, 46, 182, 0, 50, 167, 0, 21, 42, 182, 0, 52]
abbrev dktX1_carryOut_8 : List UInt8 := dkwX1_carryOut_8 ++ dktX1_carryOut_9
def dkwX1_carryOut_7 : List UInt8 := [42, 44, 3, 46, 44, 4, 46, 182, 0, 39, 167, 0, 51, 42, 44, 3, 46, 182, 0, 44, 167, 0, 41, 42]
abbrev dktX1_carryOut_7 : List UInt8 := dkwX1_carryOut_7 ++ dktX1_carryOut_8
def dkwX1_carryOut_6 : List UInt8 := [170, 0, 0, 0, 0, 0, 96, 0, 0, 0, 0, 0, 0, 0, 5, 0, 0, 0, 39, 0, 0, 0, 52, 0, 0, 0, 62, 0, 0, 0, 72, 0, 0, 0, 82, 0, 0, 0, 89]
abbrev dktX1_carryOut_6 : List UInt8 := dkwX1_carryOut_6 ++ dktX1_carryOut_7
def dkwX1_carryOut_5 : List UInt8 := [167, 0, 15, 45, 18, 33, 182, 0, 21, 153, 0, 6, 8, 54, 4, 21, 4]
abbrev dktX1_carryOut_5 : List UInt8 := dkwX1_carryOut_5 ++ dktX1_carryOut_6
def dkwX1_carryOut_4 : List UInt8 := [182, 0, 21, 153, 0, 36, 6, 54, 4, 167, 0, 30, 45, 18, 31, 182, 0, 21, 153, 0, 21, 7, 54, 4]
abbrev dktX1_carryOut_4 : List UInt8 := dkwX1_carryOut_4 ++ dktX1_carryOut_5
def dkwX1_carryOut_3 : List UInt8 := [4, 54, 4, 167, 0, 60, 45, 18, 27, 182, 0, 21, 153, 0, 51, 5, 54, 4, 167, 0, 45, 45, 18, 29]
abbrev dktX1_carryOut_3 : List UInt8 := dkwX1_carryOut_3 ++ dktX1_carryOut_4
def dkwX1_carryOut_2 : List UInt8 := [45, 18, 19, 182, 0, 21, 153, 0, 81, 3, 54, 4, 167, 0, 75, 45, 18, 25, 182, 0, 21, 153, 0, 66]
abbrev dktX1_carryOut_2 : List UInt8 := dkwX1_carryOut_2 ++ dktX1_carryOut_3
def dkwX1_carryOut_1 : List UInt8 := [171, 0, 0, 0, 0, 0, 146, 0, 0, 0, 6, 175, 63, 41, 55, 0, 0, 0, 89, 0, 1, 179, 15, 0, 0, 0, 59, 0, 47, 46, 239, 0, 0, 0, 74, 5, 133, 35, 48, 0, 0, 0, 134, 5, 148, 120, 169, 0, 0, 0, 119, 5, 165, 221, 248, 0, 0, 0, 104]
abbrev dktX1_carryOut_1 : List UInt8 := dkwX1_carryOut_1 ++ dktX1_carryOut_2
def dkwX1_carryOut_0 : List UInt8 := [43, 78, 2, 54, 4, 45, 182, 0, 13]
abbrev dktX1_carryOut_0 : List UInt8 := dkwX1_carryOut_0 ++ dktX1_carryOut_1
theorem dksX1_carryOut_0 : cX1_carryOut.data.toList.drop 0 = dktX1_carryOut_0 := by decide +kernel
theorem dksX1_carryOut_1 : cX1_carryOut.data.toList.drop 9 = dktX1_carryOut_1 := dk_seg dksX1_carryOut_0 9 rfl rfl
theorem dksX1_carryOut_2 : cX1_carryOut.data.toList.drop 68 = dktX1_carryOut_2 := dk_seg dksX1_carryOut_1 59 rfl rfl
theorem dksX1_carryOut_3 : cX1_carryOut.data.toList.drop 92 = dktX1_carryOut_3 := dk_seg dksX1_carryOut_2 24 rfl rfl
theorem dksX1_carryOut_4 : cX1_carryOut.data.toList.drop 116 = dktX1_carryOut_4 := dk_seg dksX1_carryOut_3 24 rfl rfl
theorem dksX1_carryOut_5 : cX1_carryOut.data.toList.drop 140 = dktX1_carryOut_5 := dk_seg dksX1_carryOut_4 24 rfl rfl
theorem dksX1_carryOut_6 : cX1_carryOut.data.toList.drop 157 = dktX1_carryOut_6 := dk_seg dksX1_carryOut_5 17 rfl rfl
theorem dksX1_carryOut_7 : cX1_carryOut.data.toList.drop 196 = dktX1_carryOut_7 := dk_seg dksX1_carryOut_6 39 rfl rfl
theorem dksX1_carryOut_8 : cX1_carryOut.data.toList.drop 220 = dktX1_carryOut_8 := dk_seg dksX1_carryOut_7 24 rfl rfl
theorem dksX1_carryOut_9 : cX1_carryOut.data.toList.drop 243 = dktX1_carryOut_9 := dk_seg dksX1_carryOut_8 23 rfl rfl
theorem dX1_carryOut_0 : decode cX1_carryOut 0 = .ok (.aload_n 1, 1) := dk_43 (dk_at dksX1_carryOut_0 0 rfl rfl)
theorem dX1_carryOut_1 : decode cX1_carryOut 1 = .ok (.astore_n 3, 1) := dk_78 (dk_at dksX1_carryOut_0 1 rfl rfl)
theorem dX1_carryOut_2 : decode cX1_carryOut 2 = .ok (.iconst (-1), 1) := dk_2 (dk_at dksX1_carryOut_0 2 rfl rfl)
theorem dX1_carryOut_3 : decode cX1_carryOut 3 = .ok (.istore 4, 2) := dk_54 4 (dk_at dksX1_carryOut_0 3 rfl rfl)
theorem dX1_carryOut_5 : decode cX1_carryOut 5 = .ok (.aload_n 3, 1) := dk_45 (dk_at dksX1_carryOut_0 5 rfl rfl)
theorem dX1_carryOut_6 : decode cX1_carryOut 6 = .ok (.invokevirtual 13, 3) := dk_182 0 13 (dk_at dksX1_carryOut_0 6 rfl rfl)
theorem dX1_carryOut_9 : decode cX1_carryOut 9 = .ok (.lookupswitch 146 #[(-1354815177, 89), (111375, 59), (3092207, 74), (92611376, 134), (93616297, 119), (94756344, 104)], 59) := by decide +kernel
theorem dX1_carryOut_68 : decode cX1_carryOut 68 = .ok (.aload_n 3, 1) := dk_45 (dk_at dksX1_carryOut_2 0 rfl rfl)
theorem dX1_carryOut_69 : decode cX1_carryOut 69 = .ok (.ldc 19, 2) := dk_18 19 (dk_at dksX1_carryOut_2 1 rfl rfl)
theorem dX1_carryOut_71 : decode cX1_carryOut 71 = .ok (.invokevirtual 21, 3) := dk_182 0 21 (dk_at dksX1_carryOut_2 3 rfl rfl)
theorem dX1_carryOut_74 : decode cX1_carryOut 74 = .ok (.ifCond .eq 81, 3) := dk_153 0 81 (dk_at dksX1_carryOut_2 6 rfl rfl)
theorem dX1_carryOut_77 : decode cX1_carryOut 77 = .ok (.iconst 0, 1) := dk_3 (dk_at dksX1_carryOut_2 9 rfl rfl)
theorem dX1_carryOut_78 : decode cX1_carryOut 78 = .ok (.istore 4, 2) := dk_54 4 (dk_at dksX1_carryOut_2 10 rfl rfl)
theorem dX1_carryOut_80 : decode cX1_carryOut 80 = .ok (.goto 75, 3) := dk_167 0 75 (dk_at dksX1_carryOut_2 12 rfl rfl)
theorem dX1_carryOut_83 : decode cX1_carryOut 83 = .ok (.aload_n 3, 1) := dk_45 (dk_at dksX1_carryOut_2 15 rfl rfl)
theorem dX1_carryOut_84 : decode cX1_carryOut 84 = .ok (.ldc 25, 2) := dk_18 25 (dk_at dksX1_carryOut_2 16 rfl rfl)
theorem dX1_carryOut_86 : decode cX1_carryOut 86 = .ok (.invokevirtual 21, 3) := dk_182 0 21 (dk_at dksX1_carryOut_2 18 rfl rfl)
theorem dX1_carryOut_89 : decode cX1_carryOut 89 = .ok (.ifCond .eq 66, 3) := dk_153 0 66 (dk_at dksX1_carryOut_2 21 rfl rfl)
theorem dX1_carryOut_92 : decode cX1_carryOut 92 = .ok (.iconst 1, 1) := dk_4 (dk_at dksX1_carryOut_3 0 rfl rfl)
theorem dX1_carryOut_93 : decode cX1_carryOut 93 = .ok (.istore 4, 2) := dk_54 4 (dk_at dksX1_carryOut_3 1 rfl rfl)
theorem dX1_carryOut_95 : decode cX1_carryOut 95 = .ok (.goto 60, 3) := dk_167 0 60 (dk_at dksX1_carryOut_3 3 rfl rfl)
theorem dX1_carryOut_98 : decode cX1_carryOut 98 = .ok (.aload_n 3, 1) := dk_45 (dk_at dksX1_carryOut_3 6 rfl rfl)
theorem dX1_carryOut_99 : decode cX1_carryOut 99 = .ok (.ldc 27, 2) := dk_18 27 (dk_at dksX1_carryOut_3 7 rfl rfl)
theorem dX1_carryOut_101 : decode cX1_carryOut 101 = .ok (.invokevirtual 21, 3) := dk_182 0 21 (dk_at dksX1_carryOut_3 9 rfl rfl)
theorem dX1_carryOut_104 : decode cX1_carryOut 104 = .ok (.ifCond .eq 51, 3) := dk_153 0 51 (dk_at dksX1_carryOut_3 12 rfl rfl)
theorem dX1_carryOut_107 : decode cX1_carryOut 107 = .ok (.iconst 2, 1) := dk_5 (dk_at dksX1_carryOut_3 15 rfl rfl)
theorem dX1_carryOut_108 : decode cX1_carryOut 108 = .ok (.istore 4, 2) := dk_54 4 (dk_at dksX1_carryOut_3 16 rfl rfl)
theorem dX1_carryOut_110 : decode cX1_carryOut 110 = .ok (.goto 45, 3) := dk_167 0 45 (dk_at dksX1_carryOut_3 18 rfl rfl)
theorem dX1_carryOut_113 : decode cX1_carryOut 113 = .ok (.aload_n 3, 1) := dk_45 (dk_at dksX1_carryOut_3 21 rfl rfl)
theorem dX1_carryOut_114 : decode cX1_carryOut 114 = .ok (.ldc 29, 2) := dk_18 29 (dk_at dksX1_carryOut_3 22 rfl rfl)
theorem dX1_carryOut_116 : decode cX1_carryOut 116 = .ok (.invokevirtual 21, 3) := dk_182 0 21 (dk_at dksX1_carryOut_4 0 rfl rfl)
theorem dX1_carryOut_119 : decode cX1_carryOut 119 = .ok (.ifCond .eq 36, 3) := dk_153 0 36 (dk_at dksX1_carryOut_4 3 rfl rfl)
theorem dX1_carryOut_122 : decode cX1_carryOut 122 = .ok (.iconst 3, 1) := dk_6 (dk_at dksX1_carryOut_4 6 rfl rfl)
theorem dX1_carryOut_123 : decode cX1_carryOut 123 = .ok (.istore 4, 2) := dk_54 4 (dk_at dksX1_carryOut_4 7 rfl rfl)
theorem dX1_carryOut_125 : decode cX1_carryOut 125 = .ok (.goto 30, 3) := dk_167 0 30 (dk_at dksX1_carryOut_4 9 rfl rfl)
theorem dX1_carryOut_128 : decode cX1_carryOut 128 = .ok (.aload_n 3, 1) := dk_45 (dk_at dksX1_carryOut_4 12 rfl rfl)
theorem dX1_carryOut_129 : decode cX1_carryOut 129 = .ok (.ldc 31, 2) := dk_18 31 (dk_at dksX1_carryOut_4 13 rfl rfl)
theorem dX1_carryOut_131 : decode cX1_carryOut 131 = .ok (.invokevirtual 21, 3) := dk_182 0 21 (dk_at dksX1_carryOut_4 15 rfl rfl)
theorem dX1_carryOut_134 : decode cX1_carryOut 134 = .ok (.ifCond .eq 21, 3) := dk_153 0 21 (dk_at dksX1_carryOut_4 18 rfl rfl)
theorem dX1_carryOut_137 : decode cX1_carryOut 137 = .ok (.iconst 4, 1) := dk_7 (dk_at dksX1_carryOut_4 21 rfl rfl)
theorem dX1_carryOut_138 : decode cX1_carryOut 138 = .ok (.istore 4, 2) := dk_54 4 (dk_at dksX1_carryOut_4 22 rfl rfl)
theorem dX1_carryOut_140 : decode cX1_carryOut 140 = .ok (.goto 15, 3) := dk_167 0 15 (dk_at dksX1_carryOut_5 0 rfl rfl)
theorem dX1_carryOut_143 : decode cX1_carryOut 143 = .ok (.aload_n 3, 1) := dk_45 (dk_at dksX1_carryOut_5 3 rfl rfl)
theorem dX1_carryOut_144 : decode cX1_carryOut 144 = .ok (.ldc 33, 2) := dk_18 33 (dk_at dksX1_carryOut_5 4 rfl rfl)
theorem dX1_carryOut_146 : decode cX1_carryOut 146 = .ok (.invokevirtual 21, 3) := dk_182 0 21 (dk_at dksX1_carryOut_5 6 rfl rfl)
theorem dX1_carryOut_149 : decode cX1_carryOut 149 = .ok (.ifCond .eq 6, 3) := dk_153 0 6 (dk_at dksX1_carryOut_5 9 rfl rfl)
theorem dX1_carryOut_152 : decode cX1_carryOut 152 = .ok (.iconst 5, 1) := dk_8 (dk_at dksX1_carryOut_5 12 rfl rfl)
theorem dX1_carryOut_153 : decode cX1_carryOut 153 = .ok (.istore 4, 2) := dk_54 4 (dk_at dksX1_carryOut_5 13 rfl rfl)
theorem dX1_carryOut_155 : decode cX1_carryOut 155 = .ok (.iload 4, 2) := dk_21 4 (dk_at dksX1_carryOut_5 15 rfl rfl)
theorem dX1_carryOut_157 : decode cX1_carryOut 157 = .ok (.tableswitch 96 0 5 #[39, 52, 62, 72, 82, 89], 39) := by decide +kernel
theorem dX1_carryOut_196 : decode cX1_carryOut 196 = .ok (.aload_n 0, 1) := dk_42 (dk_at dksX1_carryOut_7 0 rfl rfl)
theorem dX1_carryOut_197 : decode cX1_carryOut 197 = .ok (.aload_n 2, 1) := dk_44 (dk_at dksX1_carryOut_7 1 rfl rfl)
theorem dX1_carryOut_198 : decode cX1_carryOut 198 = .ok (.iconst 0, 1) := dk_3 (dk_at dksX1_carryOut_7 2 rfl rfl)
theorem dX1_carryOut_199 : decode cX1_carryOut 199 = .ok (.iaload, 1) := dk_46 (dk_at dksX1_carryOut_7 3 rfl rfl)
theorem dX1_carryOut_200 : decode cX1_carryOut 200 = .ok (.aload_n 2, 1) := dk_44 (dk_at dksX1_carryOut_7 4 rfl rfl)
theorem dX1_carryOut_201 : decode cX1_carryOut 201 = .ok (.iconst 1, 1) := dk_4 (dk_at dksX1_carryOut_7 5 rfl rfl)
theorem dX1_carryOut_202 : decode cX1_carryOut 202 = .ok (.iaload, 1) := dk_46 (dk_at dksX1_carryOut_7 6 rfl rfl)
theorem dX1_carryOut_203 : decode cX1_carryOut 203 = .ok (.invokevirtual 39, 3) := dk_182 0 39 (dk_at dksX1_carryOut_7 7 rfl rfl)
theorem dX1_carryOut_206 : decode cX1_carryOut 206 = .ok (.goto 51, 3) := dk_167 0 51 (dk_at dksX1_carryOut_7 10 rfl rfl)
theorem dX1_carryOut_209 : decode cX1_carryOut 209 = .ok (.aload_n 0, 1) := dk_42 (dk_at dksX1_carryOut_7 13 rfl rfl)
theorem dX1_carryOut_210 : decode cX1_carryOut 210 = .ok (.aload_n 2, 1) := dk_44 (dk_at dksX1_carryOut_7 14 rfl rfl)
theorem dX1_carryOut_211 : decode cX1_carryOut 211 = .ok (.iconst 0, 1) := dk_3 (dk_at dksX1_carryOut_7 15 rfl rfl)
theorem dX1_carryOut_212 : decode cX1_carryOut 212 = .ok (.iaload, 1) := dk_46 (dk_at dksX1_carryOut_7 16 rfl rfl)
theorem dX1_carryOut_213 : decode cX1_carryOut 213 = .ok (.invokevirtual 44, 3) := dk_182 0 44 (dk_at dksX1_carryOut_7 17 rfl rfl)
theorem dX1_carryOut_216 : decode cX1_carryOut 216 = .ok (.goto 41, 3) := dk_167 0 41 (dk_at dksX1_carryOut_7 20 rfl rfl)
theorem dX1_carryOut_219 : decode cX1_carryOut 219 = .ok (.aload_n 0, 1) := dk_42 (dk_at dksX1_carryOut_7 23 rfl rfl)
theorem dX1_carryOut_220 : decode cX1_carryOut 220 = .ok (.aload_n 2, 1) := dk_44 (dk_at dksX1_carryOut_8 0 rfl rfl)
theorem dX1_carryOut_221 : decode cX1_carryOut 221 = .ok (.iconst 0, 1) := dk_3 (dk_at dksX1_carryOut_8 1 rfl rfl)
theorem dX1_carryOut_222 : decode cX1_carryOut 222 = .ok (.iaload, 1) := dk_46 (dk_at dksX1_carryOut_8 2 rfl rfl)
theorem dX1_carryOut_223 : decode cX1_carryOut 223 = .ok (.invokevirtual 48, 3) := dk_182 0 48 (dk_at dksX1_carryOut_8 3 rfl rfl)
theorem dX1_carryOut_226 : decode cX1_carryOut 226 = .ok (.goto 31, 3) := dk_167 0 31 (dk_at dksX1_carryOut_8 6 rfl rfl)
theorem dX1_carryOut_229 : decode cX1_carryOut 229 = .ok (.aload_n 0, 1) := dk_42 (dk_at dksX1_carryOut_8 9 rfl rfl)
theorem dX1_carryOut_230 : decode cX1_carryOut 230 = .ok (.aload_n 2, 1) := dk_44 (dk_at dksX1_carryOut_8 10 rfl rfl)
theorem dX1_carryOut_231 : decode cX1_carryOut 231 = .ok (.iconst 0, 1) := dk_3 (dk_at dksX1_carryOut_8 11 rfl rfl)
theorem dX1_carryOut_232 : decode cX1_carryOut 232 = .ok (.iaload, 1) := dk_46 (dk_at dksX1_carryOut_8 12 rfl rfl)
theorem dX1_carryOut_233 : decode cX1_carryOut 233 = .ok (.invokevirtual 50, 3) := dk_182 0 50 (dk_at dksX1_carryOut_8 13 rfl rfl)
theorem dX1_carryOut_236 : decode cX1_carryOut 236 = .ok (.goto 21, 3) := dk_167 0 21 (dk_at dksX1_carryOut_8 16 rfl rfl)
theorem dX1_carryOut_239 : decode cX1_carryOut 239 = .ok (.aload_n 0, 1) := dk_42 (dk_at dksX1_carryOut_8 19 rfl rfl)
theorem dX1_carryOut_240 : decode cX1_carryOut 240 = .ok (.invokevirtual 52, 3) := dk_182 0 52 (dk_at dksX1_carryOut_8 20 rfl rfl)
theorem dX1_carryOut_243 : decode cX1_carryOut 243 = .ok (.goto 14, 3) := dk_167 0 14 (dk_at dksX1_carryOut_9 0 rfl rfl)
theorem dX1_carryOut_246 : decode cX1_carryOut 246 = .ok (.aload_n 0, 1) := dk_42 (dk_at dksX1_carryOut_9 3 rfl rfl)
theorem dX1_carryOut_247 : decode cX1_carryOut 247 = .ok (.invokevirtual 54, 3) := dk_182 0 54 (dk_at dksX1_carryOut_9 4 rfl rfl)
theorem dX1_carryOut_250 : decode cX1_carryOut 250 = .ok (.goto 7, 3) := dk_167 0 7 (dk_at dksX1_carryOut_9 7 rfl rfl)
theorem dX1_carryOut_253 : decode cX1_carryOut 253 = .ok (.aload_n 0, 1) := dk_42 (dk_at dksX1_carryOut_9 10 rfl rfl)
theorem dX1_carryOut_254 : decode cX1_carryOut 254 = .ok (.invokevirtual 56, 3) := dk_182 0 56 (dk_at dksX1_carryOut_9 11 rfl rfl)
theorem dX1_carryOut_257 : decode cX1_carryOut 257 = .ok (.ireturn, 1) := dk_172 (dk_at dksX1_carryOut_9 14 rfl rfl)
/-! PageGarden.carryOut(LPageGarden$Garden;Ljava/lang/String;[I)I -/
abbrev M_X1_carryOut (z0 n0 : Nat) (s' : gS) : gM := (RX1, cX1_carryOut, 5, (some FieldType.int), "carryOut", [], 14, z0, n0, s'.2.1, s'.2.2)
abbrev W_X1_carryOut (E : gE) (z0 n0 : Nat) (r : (Int32 ⊕ String)) (s' : gS) (pc : Nat) (L : List (Nat × gV)) (st : List gV) (s : gS) : Prop := gW E (M_X1_carryOut z0 n0 s') (gQm E (M_X1_carryOut z0 n0 s') (gOi r) s') pc L st s
noncomputable def f_X1_carryOut_257 (κ : gK) (F : Nat)  (t0 : Int32) (s : gS) : Option ((Int32 ⊕ String) × gS) :=
  some ((.inl t0), s)
set_option maxHeartbeats 4000000 in
theorem w_X1_carryOut_257 {E : gE} {F z0 n0 : Nat} {r : (Int32 ⊕ String)} {s' : gS}   : ∀  (t0 : Int32) (s : gS), f_X1_carryOut_257 (gk E) F  t0 s = some (r, s') → W_X1_carryOut E z0 n0 r s' 257 [] [vI t0] s := by
  intro t0 s hB
  unfold f_X1_carryOut_257 at hB
  obtain ⟨rfl, rfl⟩ := Prod.mk.inj (Option.some.inj hB)
  exact gw_iret rfl rfl rfl dX1_carryOut_257
noncomputable def f_X1_carryOut_155 (κ : gK) (F : Nat)  (l0 : Option Nat) (l2 : Option Nat) (l4 : Int32) (s : gS) : Option ((Int32 ⊕ String) × gS) :=
  if l4 = (0 : Int32) then
    gB1 (gaI s l2 0 (0 : Int32)) fun v1 =>
    gB1 (gaI s l2 0 (1 : Int32)) fun v2 =>
    gB1 (gck s l0 7) fun _ =>
    gB3 (f_X3_put κ F l0 v1 v2 s) fun v4 s3 =>
    f_X1_carryOut_257 κ F  v4 s3
  else
  if l4 = (1 : Int32) then
    gB1 (gaI s l2 0 (0 : Int32)) fun v6 =>
    gB1 (gck s l0 7) fun _ =>
    gB3 (f_X3_remove κ F l0 v6 s) fun v8 s7 =>
    f_X1_carryOut_257 κ F  v8 s7
  else
  if l4 = (2 : Int32) then
    gB1 (gaI s l2 0 (0 : Int32)) fun v10 =>
    gB1 (gck s l0 7) fun _ =>
    gB3 (f_X3_commit κ F l0 v10 s) fun v12 s11 =>
    f_X1_carryOut_257 κ F  v12 s11
  else
  if l4 = (3 : Int32) then
    gB1 (gaI s l2 0 (0 : Int32)) fun v14 =>
    gB1 (gck s l0 7) fun _ =>
    gB3 (f_X3_close κ F l0 v14 s) fun v16 s15 =>
    f_X1_carryOut_257 κ F  v16 s15
  else
  if l4 = (4 : Int32) then
    gB1 (gck s l0 7) fun _ =>
    gB3 (f_X3_begin κ F l0  s) fun v19 s18 =>
    f_X1_carryOut_257 κ F  v19 s18
  else
  if l4 = (5 : Int32) then
    gB1 (gck s l0 7) fun _ =>
    gB3 (f_X3_abort κ F l0  s) fun v22 s21 =>
    f_X1_carryOut_257 κ F  v22 s21
  else
  gB1 (gck s l0 7) fun _ =>
  gB3 (f_X3_open κ F l0  s) fun v25 s24 =>
  f_X1_carryOut_257 κ F  v25 s24
set_option maxHeartbeats 4000000 in
theorem w_X1_carryOut_155 {E : gE} {F z0 n0 : Nat} {r : (Int32 ⊕ String)} {s' : gS}   : ∀ (l0 : Option Nat) (l2 : Option Nat) (l4 : Int32)  (s : gS), f_X1_carryOut_155 (gk E) F  l0 l2 l4 s = some (r, s') → W_X1_carryOut E z0 n0 r s' 155 [(0, vR l0), (2, vR l2), (4, vI l4)] [] s := by
  intro l0 l2 l4 s hB
  unfold f_X1_carryOut_155 at hB
  refine gw_iload 2 rfl dX1_carryOut_155 ?_
  by_cases hs0 : l4 = (0 : Int32)
  · rw [if_pos hs0] at hB
    refine gw_tableIn (off := 39) (tgt := 196) (by rw [hs0]; decide) (by rw [hs0]; decide) (by rw [hs0]; rfl) dX1_carryOut_157 (by decide) ?_
    refine gw_aload_n 0 rfl dX1_carryOut_196 ?_
    refine gw_aload_n 1 rfl dX1_carryOut_197 ?_
    refine gw_iconst (v := (0 : Int32)) (by decide) dX1_carryOut_198 ?_
    obtain ⟨v1, hv1, hB⟩ := gB1_some hB
    refine gw_iaload hv1 dX1_carryOut_199 ?_
    refine gw_aload_n 1 rfl dX1_carryOut_200 ?_
    refine gw_iconst (v := (1 : Int32)) (by decide) dX1_carryOut_201 ?_
    obtain ⟨v2, hv2, hB⟩ := gB1_some hB
    refine gw_iaload hv2 dX1_carryOut_202 ?_
    obtain ⟨u0, hu5, hB⟩ := gB1_some hB
    rcases gB3_some hB with ⟨v4, s3, hv4, hB⟩ | ⟨Cv4, hv4, hzv4⟩
    rotate_left
    · subst hzv4
      exact gw_callV (y := yX3_put) (lw_V q1988 q1989 q1990 q110 q1991) hdV_X3_put gcl7 hu5 (As := [vI v1, vI v2]) (rest := []) (m_X3_put _ _ _ _ _ _ hv4) (Nat.le_of_ble_eq_true rfl) (Nat.le_of_ble_eq_true rfl) rfl (Nat.le_of_ble_eq_true rfl) dX1_carryOut_203 (gCont_x (gx_out rfl rfl rfl))
    refine gw_callV (y := yX3_put) (lw_V q1988 q1989 q1990 q110 q1991) hdV_X3_put gcl7 hu5 (As := [vI v1, vI v2]) (rest := []) (m_X3_put _ _ _ _ _ _ hv4) (Nat.le_of_ble_eq_true rfl) (Nat.le_of_ble_eq_true rfl) rfl (Nat.le_of_ble_eq_true rfl) dX1_carryOut_203 (gCont_i ?_)
    refine gw_goto (tgt := 257) dX1_carryOut_206 (by decide) ?_
    exact gw_sub [] rfl (w_X1_carryOut_257  _ _ hB)
  rw [if_neg hs0] at hB
  by_cases hs1 : l4 = (1 : Int32)
  · rw [if_pos hs1] at hB
    refine gw_tableIn (off := 52) (tgt := 209) (by rw [hs1]; decide) (by rw [hs1]; decide) (by rw [hs1]; rfl) dX1_carryOut_157 (by decide) ?_
    refine gw_aload_n 0 rfl dX1_carryOut_209 ?_
    refine gw_aload_n 1 rfl dX1_carryOut_210 ?_
    refine gw_iconst (v := (0 : Int32)) (by decide) dX1_carryOut_211 ?_
    obtain ⟨v6, hv6, hB⟩ := gB1_some hB
    refine gw_iaload hv6 dX1_carryOut_212 ?_
    obtain ⟨u0, hu9, hB⟩ := gB1_some hB
    rcases gB3_some hB with ⟨v8, s7, hv8, hB⟩ | ⟨Cv8, hv8, hzv8⟩
    rotate_left
    · subst hzv8
      exact gw_callV (y := yX3_remove) (lw_V q2220 q2221 q2222 q110 q2223) hdV_X3_remove gcl7 hu9 (As := [vI v6]) (rest := []) (m_X3_remove _ _ _ _ _ hv8) (Nat.le_of_ble_eq_true rfl) (Nat.le_of_ble_eq_true rfl) rfl (Nat.le_of_ble_eq_true rfl) dX1_carryOut_213 (gCont_x (gx_out rfl rfl rfl))
    refine gw_callV (y := yX3_remove) (lw_V q2220 q2221 q2222 q110 q2223) hdV_X3_remove gcl7 hu9 (As := [vI v6]) (rest := []) (m_X3_remove _ _ _ _ _ hv8) (Nat.le_of_ble_eq_true rfl) (Nat.le_of_ble_eq_true rfl) rfl (Nat.le_of_ble_eq_true rfl) dX1_carryOut_213 (gCont_i ?_)
    refine gw_goto (tgt := 257) dX1_carryOut_216 (by decide) ?_
    exact gw_sub [] rfl (w_X1_carryOut_257  _ _ hB)
  rw [if_neg hs1] at hB
  by_cases hs2 : l4 = (2 : Int32)
  · rw [if_pos hs2] at hB
    refine gw_tableIn (off := 62) (tgt := 219) (by rw [hs2]; decide) (by rw [hs2]; decide) (by rw [hs2]; rfl) dX1_carryOut_157 (by decide) ?_
    refine gw_aload_n 0 rfl dX1_carryOut_219 ?_
    refine gw_aload_n 1 rfl dX1_carryOut_220 ?_
    refine gw_iconst (v := (0 : Int32)) (by decide) dX1_carryOut_221 ?_
    obtain ⟨v10, hv10, hB⟩ := gB1_some hB
    refine gw_iaload hv10 dX1_carryOut_222 ?_
    obtain ⟨u0, hu13, hB⟩ := gB1_some hB
    rcases gB3_some hB with ⟨v12, s11, hv12, hB⟩ | ⟨Cv12, hv12, hzv12⟩
    rotate_left
    · subst hzv12
      exact gw_callV (y := yX3_commit) (lw_V q2237 q2238 q2239 q110 q2240) hdV_X3_commit gcl7 hu13 (As := [vI v10]) (rest := []) (m_X3_commit _ _ _ _ _ hv12) (Nat.le_of_ble_eq_true rfl) (Nat.le_of_ble_eq_true rfl) rfl (Nat.le_of_ble_eq_true rfl) dX1_carryOut_223 (gCont_x (gx_out rfl rfl rfl))
    refine gw_callV (y := yX3_commit) (lw_V q2237 q2238 q2239 q110 q2240) hdV_X3_commit gcl7 hu13 (As := [vI v10]) (rest := []) (m_X3_commit _ _ _ _ _ hv12) (Nat.le_of_ble_eq_true rfl) (Nat.le_of_ble_eq_true rfl) rfl (Nat.le_of_ble_eq_true rfl) dX1_carryOut_223 (gCont_i ?_)
    refine gw_goto (tgt := 257) dX1_carryOut_226 (by decide) ?_
    exact gw_sub [] rfl (w_X1_carryOut_257  _ _ hB)
  rw [if_neg hs2] at hB
  by_cases hs3 : l4 = (3 : Int32)
  · rw [if_pos hs3] at hB
    refine gw_tableIn (off := 72) (tgt := 229) (by rw [hs3]; decide) (by rw [hs3]; decide) (by rw [hs3]; rfl) dX1_carryOut_157 (by decide) ?_
    refine gw_aload_n 0 rfl dX1_carryOut_229 ?_
    refine gw_aload_n 1 rfl dX1_carryOut_230 ?_
    refine gw_iconst (v := (0 : Int32)) (by decide) dX1_carryOut_231 ?_
    obtain ⟨v14, hv14, hB⟩ := gB1_some hB
    refine gw_iaload hv14 dX1_carryOut_232 ?_
    obtain ⟨u0, hu17, hB⟩ := gB1_some hB
    rcases gB3_some hB with ⟨v16, s15, hv16, hB⟩ | ⟨Cv16, hv16, hzv16⟩
    rotate_left
    · subst hzv16
      exact gw_callV (y := yX3_close) (lw_V q2273 q2274 q2275 q110 q2276) hdV_X3_close gcl7 hu17 (As := [vI v14]) (rest := []) (m_X3_close _ _ _ _ _ hv16) (Nat.le_of_ble_eq_true rfl) (Nat.le_of_ble_eq_true rfl) rfl (Nat.le_of_ble_eq_true rfl) dX1_carryOut_233 (gCont_x (gx_out rfl rfl rfl))
    refine gw_callV (y := yX3_close) (lw_V q2273 q2274 q2275 q110 q2276) hdV_X3_close gcl7 hu17 (As := [vI v14]) (rest := []) (m_X3_close _ _ _ _ _ hv16) (Nat.le_of_ble_eq_true rfl) (Nat.le_of_ble_eq_true rfl) rfl (Nat.le_of_ble_eq_true rfl) dX1_carryOut_233 (gCont_i ?_)
    refine gw_goto (tgt := 257) dX1_carryOut_236 (by decide) ?_
    exact gw_sub [] rfl (w_X1_carryOut_257  _ _ hB)
  rw [if_neg hs3] at hB
  by_cases hs4 : l4 = (4 : Int32)
  · rw [if_pos hs4] at hB
    refine gw_tableIn (off := 82) (tgt := 239) (by rw [hs4]; decide) (by rw [hs4]; decide) (by rw [hs4]; rfl) dX1_carryOut_157 (by decide) ?_
    refine gw_aload_n 0 rfl dX1_carryOut_239 ?_
    obtain ⟨u0, hu20, hB⟩ := gB1_some hB
    rcases gB3_some hB with ⟨v19, s18, hv19, hB⟩ | ⟨Cv19, hv19, hzv19⟩
    rotate_left
    · subst hzv19
      exact gw_callV (y := yX3_begin) (lw_V q2301 q2302 q2303 q110 q2304) hdV_X3_begin gcl7 hu20 (As := []) (rest := []) (m_X3_begin _ _ _ _ hv19) (Nat.le_of_ble_eq_true rfl) (Nat.le_of_ble_eq_true rfl) rfl (Nat.le_of_ble_eq_true rfl) dX1_carryOut_240 (gCont_x (gx_out rfl rfl rfl))
    refine gw_callV (y := yX3_begin) (lw_V q2301 q2302 q2303 q110 q2304) hdV_X3_begin gcl7 hu20 (As := []) (rest := []) (m_X3_begin _ _ _ _ hv19) (Nat.le_of_ble_eq_true rfl) (Nat.le_of_ble_eq_true rfl) rfl (Nat.le_of_ble_eq_true rfl) dX1_carryOut_240 (gCont_i ?_)
    refine gw_goto (tgt := 257) dX1_carryOut_243 (by decide) ?_
    exact gw_sub [] rfl (w_X1_carryOut_257  _ _ hB)
  rw [if_neg hs4] at hB
  by_cases hs5 : l4 = (5 : Int32)
  · rw [if_pos hs5] at hB
    refine gw_tableIn (off := 89) (tgt := 246) (by rw [hs5]; decide) (by rw [hs5]; decide) (by rw [hs5]; rfl) dX1_carryOut_157 (by decide) ?_
    refine gw_aload_n 0 rfl dX1_carryOut_246 ?_
    obtain ⟨u0, hu23, hB⟩ := gB1_some hB
    rcases gB3_some hB with ⟨v22, s21, hv22, hB⟩ | ⟨Cv22, hv22, hzv22⟩
    rotate_left
    · subst hzv22
      exact gw_callV (y := yX3_abort) (lw_V q2308 q2309 q2310 q110 q2311) hdV_X3_abort gcl7 hu23 (As := []) (rest := []) (m_X3_abort _ _ _ _ hv22) (Nat.le_of_ble_eq_true rfl) (Nat.le_of_ble_eq_true rfl) rfl (Nat.le_of_ble_eq_true rfl) dX1_carryOut_247 (gCont_x (gx_out rfl rfl rfl))
    refine gw_callV (y := yX3_abort) (lw_V q2308 q2309 q2310 q110 q2311) hdV_X3_abort gcl7 hu23 (As := []) (rest := []) (m_X3_abort _ _ _ _ hv22) (Nat.le_of_ble_eq_true rfl) (Nat.le_of_ble_eq_true rfl) rfl (Nat.le_of_ble_eq_true rfl) dX1_carryOut_247 (gCont_i ?_)
    refine gw_goto (tgt := 257) dX1_carryOut_250 (by decide) ?_
    exact gw_sub [] rfl (w_X1_carryOut_257  _ _ hB)
  rw [if_neg hs5] at hB
  have ht0 : l4.toInt ≠ 0 := fun e => hs0 (Int32.toInt_inj.mp (e.trans (by decide)))
  have ht1 : l4.toInt ≠ 1 := fun e => hs1 (Int32.toInt_inj.mp (e.trans (by decide)))
  have ht2 : l4.toInt ≠ 2 := fun e => hs2 (Int32.toInt_inj.mp (e.trans (by decide)))
  have ht3 : l4.toInt ≠ 3 := fun e => hs3 (Int32.toInt_inj.mp (e.trans (by decide)))
  have ht4 : l4.toInt ≠ 4 := fun e => hs4 (Int32.toInt_inj.mp (e.trans (by decide)))
  have ht5 : l4.toInt ≠ 5 := fun e => hs5 (Int32.toInt_inj.mp (e.trans (by decide)))
  refine gw_tableOut (tgt := 253) (by omega) dX1_carryOut_157 (by decide) ?_
  refine gw_aload_n 0 rfl dX1_carryOut_253 ?_
  obtain ⟨u0, hu26, hB⟩ := gB1_some hB
  rcases gB3_some hB with ⟨v25, s24, hv25, hB⟩ | ⟨Cv25, hv25, hzv25⟩
  rotate_left
  · subst hzv25
    exact gw_callV (y := yX3_open) (lw_V q2312 q2313 q2314 q110 q2315) hdV_X3_open gcl7 hu26 (As := []) (rest := []) (m_X3_open _ _ _ _ hv25) (Nat.le_of_ble_eq_true rfl) (Nat.le_of_ble_eq_true rfl) rfl (Nat.le_of_ble_eq_true rfl) dX1_carryOut_254 (gCont_x (gx_out rfl rfl rfl))
  refine gw_callV (y := yX3_open) (lw_V q2312 q2313 q2314 q110 q2315) hdV_X3_open gcl7 hu26 (As := []) (rest := []) (m_X3_open _ _ _ _ hv25) (Nat.le_of_ble_eq_true rfl) (Nat.le_of_ble_eq_true rfl) rfl (Nat.le_of_ble_eq_true rfl) dX1_carryOut_254 (gCont_i ?_)
  exact gw_sub [] rfl (w_X1_carryOut_257  _ _ hB)
noncomputable def f_X1_carryOut_0 (κ : gK) (F : Nat)  (l0 : Option Nat) (l1 : Option Nat) (l2 : Option Nat) (s : gS) : Option ((Int32 ⊕ String) × gS) :=
  gB1 (gck s l1 16) fun _ =>
  gB2 (f_J4_hashCode κ F l1  s) fun v2 s1 =>
  if v2 = (-1354815177 : Int32) then
    gB1 (gck s1 l1 16) fun _ =>
    gB2 (f_J4_equals κ F l1 (κ.2 12) s1) fun v5 s4 =>
    if v5 = 0 then
      f_X1_carryOut_155 κ F  l0 l2 (-1 : Int32) s4
    else
      f_X1_carryOut_155 κ F  l0 l2 (2 : Int32) s4
  else
  if v2 = (111375 : Int32) then
    gB1 (gck s1 l1 16) fun _ =>
    gB2 (f_J4_equals κ F l1 (κ.2 10) s1) fun v8 s7 =>
    if v8 = 0 then
      f_X1_carryOut_155 κ F  l0 l2 (-1 : Int32) s7
    else
      f_X1_carryOut_155 κ F  l0 l2 (0 : Int32) s7
  else
  if v2 = (3092207 : Int32) then
    gB1 (gck s1 l1 16) fun _ =>
    gB2 (f_J4_equals κ F l1 (κ.2 11) s1) fun v11 s10 =>
    if v11 = 0 then
      f_X1_carryOut_155 κ F  l0 l2 (-1 : Int32) s10
    else
      f_X1_carryOut_155 κ F  l0 l2 (1 : Int32) s10
  else
  if v2 = (92611376 : Int32) then
    gB1 (gck s1 l1 16) fun _ =>
    gB2 (f_J4_equals κ F l1 (κ.2 15) s1) fun v14 s13 =>
    if v14 = 0 then
      f_X1_carryOut_155 κ F  l0 l2 (-1 : Int32) s13
    else
      f_X1_carryOut_155 κ F  l0 l2 (5 : Int32) s13
  else
  if v2 = (93616297 : Int32) then
    gB1 (gck s1 l1 16) fun _ =>
    gB2 (f_J4_equals κ F l1 (κ.2 14) s1) fun v17 s16 =>
    if v17 = 0 then
      f_X1_carryOut_155 κ F  l0 l2 (-1 : Int32) s16
    else
      f_X1_carryOut_155 κ F  l0 l2 (4 : Int32) s16
  else
  if v2 = (94756344 : Int32) then
    gB1 (gck s1 l1 16) fun _ =>
    gB2 (f_J4_equals κ F l1 (κ.2 13) s1) fun v20 s19 =>
    if v20 = 0 then
      f_X1_carryOut_155 κ F  l0 l2 (-1 : Int32) s19
    else
      f_X1_carryOut_155 κ F  l0 l2 (3 : Int32) s19
  else
  f_X1_carryOut_155 κ F  l0 l2 (-1 : Int32) s1
set_option maxHeartbeats 4000000 in
theorem w_X1_carryOut_0 {E : gE} {F z0 n0 : Nat} {r : (Int32 ⊕ String)} {s' : gS}   : ∀ (l0 : Option Nat) (l1 : Option Nat) (l2 : Option Nat)  (s : gS), f_X1_carryOut_0 (gk E) F  l0 l1 l2 s = some (r, s') → W_X1_carryOut E z0 n0 r s' 0 [(0, vR l0), (1, vR l1), (2, vR l2)] [] s := by
  intro l0 l1 l2 s hB
  unfold f_X1_carryOut_0 at hB
  refine gw_aload_n 1 rfl dX1_carryOut_0 ?_
  refine gw_astore_n (L' := [(3, vR l1), (0, vR l0), (1, vR l1), (2, vR l2)]) (Nat.le_of_ble_eq_true rfl) rfl dX1_carryOut_1 ?_
  refine gw_iconst (v := (-1 : Int32)) (by decide) dX1_carryOut_2 ?_
  refine gw_istore (L' := [(4, vI (-1 : Int32)), (3, vR l1), (0, vR l0), (1, vR l1), (2, vR l2)]) (Nat.le_of_ble_eq_true rfl) rfl dX1_carryOut_3 ?_
  refine gw_aload_n 1 rfl dX1_carryOut_5 ?_
  obtain ⟨u0, hu3, hB⟩ := gB1_some hB
  obtain ⟨v2, s1, hv2, hB⟩ := gB2_some hB
  refine gw_callV (y := yJ4_hashCode) (lw_V q1396 q368 q3116 q119 q369) hdV_J4_hashCode gcl16 hu3 (As := []) (rest := []) (m_J4_hashCode _ _ _ _ hv2) (Nat.le_of_ble_eq_true rfl) (Nat.le_of_ble_eq_true rfl) rfl (Nat.le_of_ble_eq_true rfl) dX1_carryOut_6 (gCont_i ?_)
  by_cases hs0 : v2 = (-1354815177 : Int32)
  · rw [if_pos hs0] at hB
    refine gw_lookup (off := 89) (tgt := 98) (by decide) (by rw [hs0]; decide) dX1_carryOut_9 (by decide) ?_
    refine gw_aload_n 1 rfl dX1_carryOut_98 ?_
    refine gw_ldcS (own := "PageGarden") (tx := "commit") (i := 12) rfl (by decide) dX1_carryOut_99 ?_
    obtain ⟨u0, hu6, hB⟩ := gB1_some hB
    obtain ⟨v5, s4, hv5, hB⟩ := gB2_some hB
    refine gw_callV (y := yJ4_equals) (lw_V q1398 q1154 q3117 q119 q1155) hdV_J4_equals gcl16 hu6 (As := [vR ((gk E).2 12)]) (rest := []) (m_J4_equals _ _ _ _ _ hv5) (Nat.le_of_ble_eq_true rfl) (Nat.le_of_ble_eq_true rfl) rfl (Nat.le_of_ble_eq_true rfl) dX1_carryOut_101 (gCont_i ?_)
    refine gw_if_eq (tgt := 155) dX1_carryOut_104 (by decide) (fun hcnd => ?_) (fun hcnd => ?_)
    · rw [if_pos hcnd] at hB
      exact gw_sub [2, 4, 0] rfl (w_X1_carryOut_155  _ _ _ _ hB)
    · rw [if_neg hcnd] at hB
      refine gw_iconst (v := (2 : Int32)) (by decide) dX1_carryOut_107 ?_
      refine gw_istore (L' := [(4, vI (2 : Int32)), (3, vR l1), (0, vR l0), (1, vR l1), (2, vR l2)]) (Nat.le_of_ble_eq_true rfl) rfl dX1_carryOut_108 ?_
      refine gw_goto (tgt := 155) dX1_carryOut_110 (by decide) ?_
      exact gw_sub [2, 4, 0] rfl (w_X1_carryOut_155  _ _ _ _ hB)
  rw [if_neg hs0] at hB
  by_cases hs1 : v2 = (111375 : Int32)
  · rw [if_pos hs1] at hB
    refine gw_lookup (off := 59) (tgt := 68) (by decide) (by rw [hs1]; decide) dX1_carryOut_9 (by decide) ?_
    refine gw_aload_n 1 rfl dX1_carryOut_68 ?_
    refine gw_ldcS (own := "PageGarden") (tx := "put") (i := 10) rfl (by decide) dX1_carryOut_69 ?_
    obtain ⟨u0, hu9, hB⟩ := gB1_some hB
    obtain ⟨v8, s7, hv8, hB⟩ := gB2_some hB
    refine gw_callV (y := yJ4_equals) (lw_V q1398 q1154 q3117 q119 q1155) hdV_J4_equals gcl16 hu9 (As := [vR ((gk E).2 10)]) (rest := []) (m_J4_equals _ _ _ _ _ hv8) (Nat.le_of_ble_eq_true rfl) (Nat.le_of_ble_eq_true rfl) rfl (Nat.le_of_ble_eq_true rfl) dX1_carryOut_71 (gCont_i ?_)
    refine gw_if_eq (tgt := 155) dX1_carryOut_74 (by decide) (fun hcnd => ?_) (fun hcnd => ?_)
    · rw [if_pos hcnd] at hB
      exact gw_sub [2, 4, 0] rfl (w_X1_carryOut_155  _ _ _ _ hB)
    · rw [if_neg hcnd] at hB
      refine gw_iconst (v := (0 : Int32)) (by decide) dX1_carryOut_77 ?_
      refine gw_istore (L' := [(4, vI (0 : Int32)), (3, vR l1), (0, vR l0), (1, vR l1), (2, vR l2)]) (Nat.le_of_ble_eq_true rfl) rfl dX1_carryOut_78 ?_
      refine gw_goto (tgt := 155) dX1_carryOut_80 (by decide) ?_
      exact gw_sub [2, 4, 0] rfl (w_X1_carryOut_155  _ _ _ _ hB)
  rw [if_neg hs1] at hB
  by_cases hs2 : v2 = (3092207 : Int32)
  · rw [if_pos hs2] at hB
    refine gw_lookup (off := 74) (tgt := 83) (by decide) (by rw [hs2]; decide) dX1_carryOut_9 (by decide) ?_
    refine gw_aload_n 1 rfl dX1_carryOut_83 ?_
    refine gw_ldcS (own := "PageGarden") (tx := "drop") (i := 11) rfl (by decide) dX1_carryOut_84 ?_
    obtain ⟨u0, hu12, hB⟩ := gB1_some hB
    obtain ⟨v11, s10, hv11, hB⟩ := gB2_some hB
    refine gw_callV (y := yJ4_equals) (lw_V q1398 q1154 q3117 q119 q1155) hdV_J4_equals gcl16 hu12 (As := [vR ((gk E).2 11)]) (rest := []) (m_J4_equals _ _ _ _ _ hv11) (Nat.le_of_ble_eq_true rfl) (Nat.le_of_ble_eq_true rfl) rfl (Nat.le_of_ble_eq_true rfl) dX1_carryOut_86 (gCont_i ?_)
    refine gw_if_eq (tgt := 155) dX1_carryOut_89 (by decide) (fun hcnd => ?_) (fun hcnd => ?_)
    · rw [if_pos hcnd] at hB
      exact gw_sub [2, 4, 0] rfl (w_X1_carryOut_155  _ _ _ _ hB)
    · rw [if_neg hcnd] at hB
      refine gw_iconst (v := (1 : Int32)) (by decide) dX1_carryOut_92 ?_
      refine gw_istore (L' := [(4, vI (1 : Int32)), (3, vR l1), (0, vR l0), (1, vR l1), (2, vR l2)]) (Nat.le_of_ble_eq_true rfl) rfl dX1_carryOut_93 ?_
      refine gw_goto (tgt := 155) dX1_carryOut_95 (by decide) ?_
      exact gw_sub [2, 4, 0] rfl (w_X1_carryOut_155  _ _ _ _ hB)
  rw [if_neg hs2] at hB
  by_cases hs3 : v2 = (92611376 : Int32)
  · rw [if_pos hs3] at hB
    refine gw_lookup (off := 134) (tgt := 143) (by decide) (by rw [hs3]; decide) dX1_carryOut_9 (by decide) ?_
    refine gw_aload_n 1 rfl dX1_carryOut_143 ?_
    refine gw_ldcS (own := "PageGarden") (tx := "abort") (i := 15) rfl (by decide) dX1_carryOut_144 ?_
    obtain ⟨u0, hu15, hB⟩ := gB1_some hB
    obtain ⟨v14, s13, hv14, hB⟩ := gB2_some hB
    refine gw_callV (y := yJ4_equals) (lw_V q1398 q1154 q3117 q119 q1155) hdV_J4_equals gcl16 hu15 (As := [vR ((gk E).2 15)]) (rest := []) (m_J4_equals _ _ _ _ _ hv14) (Nat.le_of_ble_eq_true rfl) (Nat.le_of_ble_eq_true rfl) rfl (Nat.le_of_ble_eq_true rfl) dX1_carryOut_146 (gCont_i ?_)
    refine gw_if_eq (tgt := 155) dX1_carryOut_149 (by decide) (fun hcnd => ?_) (fun hcnd => ?_)
    · rw [if_pos hcnd] at hB
      exact gw_sub [2, 4, 0] rfl (w_X1_carryOut_155  _ _ _ _ hB)
    · rw [if_neg hcnd] at hB
      refine gw_iconst (v := (5 : Int32)) (by decide) dX1_carryOut_152 ?_
      refine gw_istore (L' := [(4, vI (5 : Int32)), (3, vR l1), (0, vR l0), (1, vR l1), (2, vR l2)]) (Nat.le_of_ble_eq_true rfl) rfl dX1_carryOut_153 ?_
      exact gw_sub [2, 4, 0] rfl (w_X1_carryOut_155  _ _ _ _ hB)
  rw [if_neg hs3] at hB
  by_cases hs4 : v2 = (93616297 : Int32)
  · rw [if_pos hs4] at hB
    refine gw_lookup (off := 119) (tgt := 128) (by decide) (by rw [hs4]; decide) dX1_carryOut_9 (by decide) ?_
    refine gw_aload_n 1 rfl dX1_carryOut_128 ?_
    refine gw_ldcS (own := "PageGarden") (tx := "begin") (i := 14) rfl (by decide) dX1_carryOut_129 ?_
    obtain ⟨u0, hu18, hB⟩ := gB1_some hB
    obtain ⟨v17, s16, hv17, hB⟩ := gB2_some hB
    refine gw_callV (y := yJ4_equals) (lw_V q1398 q1154 q3117 q119 q1155) hdV_J4_equals gcl16 hu18 (As := [vR ((gk E).2 14)]) (rest := []) (m_J4_equals _ _ _ _ _ hv17) (Nat.le_of_ble_eq_true rfl) (Nat.le_of_ble_eq_true rfl) rfl (Nat.le_of_ble_eq_true rfl) dX1_carryOut_131 (gCont_i ?_)
    refine gw_if_eq (tgt := 155) dX1_carryOut_134 (by decide) (fun hcnd => ?_) (fun hcnd => ?_)
    · rw [if_pos hcnd] at hB
      exact gw_sub [2, 4, 0] rfl (w_X1_carryOut_155  _ _ _ _ hB)
    · rw [if_neg hcnd] at hB
      refine gw_iconst (v := (4 : Int32)) (by decide) dX1_carryOut_137 ?_
      refine gw_istore (L' := [(4, vI (4 : Int32)), (3, vR l1), (0, vR l0), (1, vR l1), (2, vR l2)]) (Nat.le_of_ble_eq_true rfl) rfl dX1_carryOut_138 ?_
      refine gw_goto (tgt := 155) dX1_carryOut_140 (by decide) ?_
      exact gw_sub [2, 4, 0] rfl (w_X1_carryOut_155  _ _ _ _ hB)
  rw [if_neg hs4] at hB
  by_cases hs5 : v2 = (94756344 : Int32)
  · rw [if_pos hs5] at hB
    refine gw_lookup (off := 104) (tgt := 113) (by decide) (by rw [hs5]; decide) dX1_carryOut_9 (by decide) ?_
    refine gw_aload_n 1 rfl dX1_carryOut_113 ?_
    refine gw_ldcS (own := "PageGarden") (tx := "close") (i := 13) rfl (by decide) dX1_carryOut_114 ?_
    obtain ⟨u0, hu21, hB⟩ := gB1_some hB
    obtain ⟨v20, s19, hv20, hB⟩ := gB2_some hB
    refine gw_callV (y := yJ4_equals) (lw_V q1398 q1154 q3117 q119 q1155) hdV_J4_equals gcl16 hu21 (As := [vR ((gk E).2 13)]) (rest := []) (m_J4_equals _ _ _ _ _ hv20) (Nat.le_of_ble_eq_true rfl) (Nat.le_of_ble_eq_true rfl) rfl (Nat.le_of_ble_eq_true rfl) dX1_carryOut_116 (gCont_i ?_)
    refine gw_if_eq (tgt := 155) dX1_carryOut_119 (by decide) (fun hcnd => ?_) (fun hcnd => ?_)
    · rw [if_pos hcnd] at hB
      exact gw_sub [2, 4, 0] rfl (w_X1_carryOut_155  _ _ _ _ hB)
    · rw [if_neg hcnd] at hB
      refine gw_iconst (v := (3 : Int32)) (by decide) dX1_carryOut_122 ?_
      refine gw_istore (L' := [(4, vI (3 : Int32)), (3, vR l1), (0, vR l0), (1, vR l1), (2, vR l2)]) (Nat.le_of_ble_eq_true rfl) rfl dX1_carryOut_123 ?_
      refine gw_goto (tgt := 155) dX1_carryOut_125 (by decide) ?_
      exact gw_sub [2, 4, 0] rfl (w_X1_carryOut_155  _ _ _ _ hB)
  rw [if_neg hs5] at hB
  refine gw_lookup (off := 146) (tgt := 155) (by decide) ((lv_osw hs0 (by decide)).trans ((lv_osw hs1 (by decide)).trans ((lv_osw hs2 (by decide)).trans ((lv_osw hs3 (by decide)).trans ((lv_osw hs4 (by decide)).trans ((lv_osw hs5 (by decide)).trans rfl)))))) dX1_carryOut_9 (by decide) ?_
  exact gw_sub [2, 4, 0] rfl (w_X1_carryOut_155  _ _ _ _ hB)
noncomputable def f_X1_carryOut (κ : gK) (F : Nat) (a1 : Option Nat) (a2 : Option Nat) (a3 : Option Nat) (s : gS) : Option ((Int32 ⊕ String) × gS) := f_X1_carryOut_0 κ F a1 a2 a3 s
theorem m_X1_carryOut {E : gE} {F : Nat} (a1 : Option Nat) (a2 : Option Nat) (a3 : Option Nat) (s : gS) (r : (Int32 ⊕ String)) (s' : gS) (h : f_X1_carryOut (gk E) F a1 a2 a3 s = some (r, s')) : gCT E 14 yX1_carryOut (ws_ yX1_carryOut cX1_carryOut 5 (some FieldType.int)) [vR a1, vR a2, vR a3] s (gOi r) s' := by
  refine gCT_of2 (fun h => absurd h (by decide)) (plainFor_of_name (by decide)) (Nat.le_of_ble_eq_true rfl) ?_
  exact gw_sub [0, 1, 2] rfl (w_X1_carryOut_0 _ _ _ _ h)
def dkwX11_carryOutOn_1 : List UInt8 := [132, 2, 1, 167, 255, 233, 167, 0, 6, 78, 28, 172, 28, 172]
abbrev dktX11_carryOutOn_1 : List UInt8 := dkwX11_carryOutOn_1 ++ []
def dkwX11_carryOutOn_0 : List UInt8 := [3, 61, 42, 182, 0, 73, 153, 0, 22, 43, 42, 180, 0, 21, 42, 180, 0, 25, 184, 0, 76, 62]
abbrev dktX11_carryOutOn_0 : List UInt8 := dkwX11_carryOutOn_0 ++ dktX11_carryOutOn_1
theorem dksX11_carryOutOn_0 : cX11_carryOutOn.data.toList.drop 0 = dktX11_carryOutOn_0 := by decide +kernel
theorem dksX11_carryOutOn_1 : cX11_carryOutOn.data.toList.drop 22 = dktX11_carryOutOn_1 := dk_seg dksX11_carryOutOn_0 22 rfl rfl
theorem dX11_carryOutOn_0 : decode cX11_carryOutOn 0 = .ok (.iconst 0, 1) := dk_3 (dk_at dksX11_carryOutOn_0 0 rfl rfl)
theorem dX11_carryOutOn_1 : decode cX11_carryOutOn 1 = .ok (.istore_n 2, 1) := dk_61 (dk_at dksX11_carryOutOn_0 1 rfl rfl)
theorem dX11_carryOutOn_2 : decode cX11_carryOutOn 2 = .ok (.aload_n 0, 1) := dk_42 (dk_at dksX11_carryOutOn_0 2 rfl rfl)
theorem dX11_carryOutOn_3 : decode cX11_carryOutOn 3 = .ok (.invokevirtual 73, 3) := dk_182 0 73 (dk_at dksX11_carryOutOn_0 3 rfl rfl)
theorem dX11_carryOutOn_6 : decode cX11_carryOutOn 6 = .ok (.ifCond .eq 22, 3) := dk_153 0 22 (dk_at dksX11_carryOutOn_0 6 rfl rfl)
theorem dX11_carryOutOn_9 : decode cX11_carryOutOn 9 = .ok (.aload_n 1, 1) := dk_43 (dk_at dksX11_carryOutOn_0 9 rfl rfl)
theorem dX11_carryOutOn_10 : decode cX11_carryOutOn 10 = .ok (.aload_n 0, 1) := dk_42 (dk_at dksX11_carryOutOn_0 10 rfl rfl)
theorem dX11_carryOutOn_11 : decode cX11_carryOutOn 11 = .ok (.getfield 21, 3) := dk_180 0 21 (dk_at dksX11_carryOutOn_0 11 rfl rfl)
theorem dX11_carryOutOn_14 : decode cX11_carryOutOn 14 = .ok (.aload_n 0, 1) := dk_42 (dk_at dksX11_carryOutOn_0 14 rfl rfl)
theorem dX11_carryOutOn_15 : decode cX11_carryOutOn 15 = .ok (.getfield 25, 3) := dk_180 0 25 (dk_at dksX11_carryOutOn_0 15 rfl rfl)
theorem dX11_carryOutOn_18 : decode cX11_carryOutOn 18 = .ok (.invokestatic 76, 3) := dk_184 0 76 (dk_at dksX11_carryOutOn_0 18 rfl rfl)
theorem dX11_carryOutOn_21 : decode cX11_carryOutOn 21 = .ok (.istore_n 3, 1) := dk_62 (dk_at dksX11_carryOutOn_0 21 rfl rfl)
theorem dX11_carryOutOn_22 : decode cX11_carryOutOn 22 = .ok (.iinc 2 1, 3) := dk_132 2 1 (dk_at dksX11_carryOutOn_1 0 rfl rfl)
theorem dX11_carryOutOn_25 : decode cX11_carryOutOn 25 = .ok (.goto (-23), 3) := dk_167 255 233 (dk_at dksX11_carryOutOn_1 3 rfl rfl)
theorem dX11_carryOutOn_28 : decode cX11_carryOutOn 28 = .ok (.goto 6, 3) := dk_167 0 6 (dk_at dksX11_carryOutOn_1 6 rfl rfl)
theorem dX11_carryOutOn_31 : decode cX11_carryOutOn 31 = .ok (.astore_n 3, 1) := dk_78 (dk_at dksX11_carryOutOn_1 9 rfl rfl)
theorem dX11_carryOutOn_32 : decode cX11_carryOutOn 32 = .ok (.iload_n 2, 1) := dk_28 (dk_at dksX11_carryOutOn_1 10 rfl rfl)
theorem dX11_carryOutOn_33 : decode cX11_carryOutOn 33 = .ok (.ireturn, 1) := dk_172 (dk_at dksX11_carryOutOn_1 11 rfl rfl)
theorem dX11_carryOutOn_34 : decode cX11_carryOutOn 34 = .ok (.iload_n 2, 1) := dk_28 (dk_at dksX11_carryOutOn_1 12 rfl rfl)
theorem dX11_carryOutOn_35 : decode cX11_carryOutOn 35 = .ok (.ireturn, 1) := dk_172 (dk_at dksX11_carryOutOn_1 13 rfl rfl)
/-! PageGarden$Text.carryOutOn(LPageGarden$Garden;)I -/
abbrev M_X11_carryOutOn (z0 n0 : Nat) (s' : gS) : gM := (RX11, cX11_carryOutOn, 4, (some FieldType.int), "carryOutOn", tableOf [(2, 28, 31, 80), (2, 28, 31, 82), (2, 28, 31, 84)], 15, z0, n0, s'.2.1, s'.2.2)
abbrev W_X11_carryOutOn (E : gE) (z0 n0 : Nat) (r : Int32) (s' : gS) (pc : Nat) (L : List (Nat × gV)) (st : List gV) (s : gS) : Prop := gW E (M_X11_carryOutOn z0 n0 s') (gQm E (M_X11_carryOutOn z0 n0 s') (.inl (some (vI r))) s') pc L st s
noncomputable def f_X11_carryOutOn_31 (κ : gK) (F : Nat)  (l2 : Int32) (s : gS) : Option (Int32 × gS) :=
  some (l2, s)
set_option maxHeartbeats 4000000 in
theorem w_X11_carryOutOn_31 {E : gE} {F z0 n0 : Nat} {r : Int32} {s' : gS}   : ∀ (l2 : Int32)  (q : Option Nat) (s : gS), f_X11_carryOutOn_31 (gk E) F  l2 s = some (r, s') → W_X11_carryOutOn E z0 n0 r s' 31 [(2, vI l2)] [vR q] s := by
  intro l2 q s hB
  unfold f_X11_carryOutOn_31 at hB
  refine gw_astore_n (L' := [(3, vR q), (2, vI l2)]) (Nat.le_of_ble_eq_true rfl) rfl dX11_carryOutOn_31 ?_
  refine gw_iload_n 1 rfl dX11_carryOutOn_32 ?_
  obtain ⟨rfl, rfl⟩ := Prod.mk.inj (Option.some.inj hB)
  exact gw_iret rfl rfl rfl dX11_carryOutOn_33
noncomputable def f_X11_carryOutOn_2b (κ : gK) (F : Nat) (k2 : Option Nat → Option Nat → Int32 → gS → Option (Int32 × gS)) (l0 : Option Nat) (l1 : Option Nat) (l2 : Int32) (s : gS) : Option (Int32 × gS) :=
  gB1 (gck s l0 8) fun _ =>
  gB2 (f_X11_next κ F l0  s) fun v2 s1 =>
  if v2 = 0 then
    some (l2, s1)
  else
    gB1 (gfR s1 l0 8 2) fun v4 =>
    gB1 (gfR s1 l0 8 3) fun v5 =>
    gBy (f_X1_carryOut κ F l1 v4 v5 s1) (fun Cv7 s6 =>
      if Cv7 = "java/lang/IndexOutOfBoundsException" then f_X11_carryOutOn_31 κ F l2 s6 else
      if Cv7 = "java/lang/IllegalArgumentException" then f_X11_carryOutOn_31 κ F l2 s6 else
      if Cv7 = "java/lang/IllegalStateException" then f_X11_carryOutOn_31 κ F l2 s6 else
      none) <| fun v7 s6 =>
    k2 l0 l1 (l2 + (1 : Int32)) s6
noncomputable def f_X11_carryOutOn_2 (κ : gK) (F : Nat)  : Nat → Option Nat → Option Nat → Int32 → gS → Option (Int32 × gS)
  | 0 => fun _ _ _ _ => none
  | n + 1 => f_X11_carryOutOn_2b κ F  (f_X11_carryOutOn_2 κ F  n)
set_option maxHeartbeats 4000000 in
theorem w_X11_carryOutOn_2b {E : gE} {F z0 n0 : Nat} {r : Int32} {s' : gS} {k2 : Option Nat → Option Nat → Int32 → gS → Option (Int32 × gS)} (hk2 : ∀ (l0 : Option Nat) (l1 : Option Nat) (l2 : Int32) (s : gS), k2 l0 l1 l2 s = some (r, s') → W_X11_carryOutOn E z0 n0 r s' 2 [(0, vR l0), (1, vR l1), (2, vI l2)] [] s) : ∀ (l0 : Option Nat) (l1 : Option Nat) (l2 : Int32)  (s : gS), f_X11_carryOutOn_2b (gk E) F k2 l0 l1 l2 s = some (r, s') → W_X11_carryOutOn E z0 n0 r s' 2 [(0, vR l0), (1, vR l1), (2, vI l2)] [] s := by
  intro l0 l1 l2 s hB
  unfold f_X11_carryOutOn_2b at hB
  refine gw_aload_n 0 rfl dX11_carryOutOn_2 ?_
  obtain ⟨u0, hu3, hB⟩ := gB1_some hB
  obtain ⟨v2, s1, hv2, hB⟩ := gB2_some hB
  refine gw_callV (y := yX11_next) (lw_V q1984 q1350 q1351 q165 q1352) hdV_X11_next gcl8 hu3 (As := []) (rest := []) (m_X11_next _ _ _ _ hv2) (Nat.le_of_ble_eq_true rfl) (Nat.le_of_ble_eq_true rfl) rfl (Nat.le_of_ble_eq_true rfl) dX11_carryOutOn_3 (gCont_i ?_)
  refine gw_if_eq (tgt := 28) dX11_carryOutOn_6 (by decide) (fun hcnd => ?_) (fun hcnd => ?_)
  · rw [if_pos hcnd] at hB
    refine gw_goto (tgt := 34) dX11_carryOutOn_28 (by decide) ?_
    refine gw_iload_n 2 rfl dX11_carryOutOn_34 ?_
    obtain ⟨rfl, rfl⟩ := Prod.mk.inj (Option.some.inj hB)
    exact gw_iret rfl rfl rfl dX11_carryOutOn_35
  · rw [if_neg hcnd] at hB
    refine gw_aload_n 1 rfl dX11_carryOutOn_9 ?_
    refine gw_aload_n 0 rfl dX11_carryOutOn_10 ?_
    obtain ⟨v4, hv4, hB⟩ := gB1_some hB
    refine gw_getf (C := RX11) (T := TX11) (N := 5) (k := 2) gcl8 (by decide) in_X11 q1335 (gfR_spec hv4) dX11_carryOutOn_11 ?_
    refine gw_aload_n 0 rfl dX11_carryOutOn_14 ?_
    obtain ⟨v5, hv5, hB⟩ := gB1_some hB
    refine gw_getf (C := RX11) (T := TX11) (N := 5) (k := 3) gcl8 (by decide) in_X11 q1336 (gfR_spec hv5) dX11_carryOutOn_15 ?_
    rcases gBy_some hB with ⟨v7, s6, hv7, hB⟩ | ⟨Cv7, s6, hv7, hB⟩
    rotate_left
    · by_cases hc0 : Cv7 = "java/lang/IndexOutOfBoundsException"
      · rw [if_pos hc0] at hB
        subst hc0
        exact gw_callSN (y := yX1_carryOut) (lw_meth q1987) q108 q1985 q1986 hdS_X1_carryOut (As := [vR l1, vR v4, vR v5]) (rest := []) (m_X1_carryOut _ _ _ _ _ _ hv7) (Nat.le_of_ble_eq_true rfl) (Nat.le_of_ble_eq_true rfl) rfl (Nat.le_of_ble_eq_true rfl) dX11_carryOutOn_18 (gCont_x (gx_catch (own := "PageGarden$Text") rfl [] ⟨2, 28, 31, 80⟩ [⟨2, 28, 31, 82⟩, ⟨2, 28, 31, 84⟩] rfl (fun z hz => by cases hz) rfl (by decide) q1963 q2286 (tgt := 31) rfl (fun q => gw_sub [2] rfl (w_X11_carryOutOn_31 _ q _ hB))))
      · rw [if_neg hc0] at hB
        by_cases hc1 : Cv7 = "java/lang/IllegalArgumentException"
        · rw [if_pos hc1] at hB
          subst hc1
          exact gw_callSN (y := yX1_carryOut) (lw_meth q1987) q108 q1985 q1986 hdS_X1_carryOut (As := [vR l1, vR v4, vR v5]) (rest := []) (m_X1_carryOut _ _ _ _ _ _ hv7) (Nat.le_of_ble_eq_true rfl) (Nat.le_of_ble_eq_true rfl) rfl (Nat.le_of_ble_eq_true rfl) dX11_carryOutOn_18 (gCont_x (gx_catch (own := "PageGarden$Text") rfl [⟨2, 28, 31, 80⟩] ⟨2, 28, 31, 82⟩ [⟨2, 28, 31, 84⟩] rfl (fun z hz => by
            rcases List.mem_cons.mp hz with rfl | hz
            · exact Or.inr ⟨by decide, "java/lang/IndexOutOfBoundsException", q1963, by decide⟩
            cases hz) rfl (by decide) q1982 q430 (tgt := 31) rfl (fun q => gw_sub [2] rfl (w_X11_carryOutOn_31 _ q _ hB))))
        · rw [if_neg hc1] at hB
          by_cases hc2 : Cv7 = "java/lang/IllegalStateException"
          · rw [if_pos hc2] at hB
            subst hc2
            exact gw_callSN (y := yX1_carryOut) (lw_meth q1987) q108 q1985 q1986 hdS_X1_carryOut (As := [vR l1, vR v4, vR v5]) (rest := []) (m_X1_carryOut _ _ _ _ _ _ hv7) (Nat.le_of_ble_eq_true rfl) (Nat.le_of_ble_eq_true rfl) rfl (Nat.le_of_ble_eq_true rfl) dX11_carryOutOn_18 (gCont_x (gx_catch (own := "PageGarden$Text") rfl [⟨2, 28, 31, 80⟩, ⟨2, 28, 31, 82⟩] ⟨2, 28, 31, 84⟩ [] rfl (fun z hz => by
              rcases List.mem_cons.mp hz with rfl | hz
              · exact Or.inr ⟨by decide, "java/lang/IndexOutOfBoundsException", q1963, by decide⟩
              rcases List.mem_cons.mp hz with rfl | hz
              · exact Or.inr ⟨by decide, "java/lang/IllegalArgumentException", q1982, by decide⟩
              cases hz) rfl (by decide) q1983 q2020 (tgt := 31) rfl (fun q => gw_sub [2] rfl (w_X11_carryOutOn_31 _ q _ hB))))
          · rw [if_neg hc2] at hB
            cases hB
    refine gw_callSN (y := yX1_carryOut) (lw_meth q1987) q108 q1985 q1986 hdS_X1_carryOut (As := [vR l1, vR v4, vR v5]) (rest := []) (m_X1_carryOut _ _ _ _ _ _ hv7) (Nat.le_of_ble_eq_true rfl) (Nat.le_of_ble_eq_true rfl) rfl (Nat.le_of_ble_eq_true rfl) dX11_carryOutOn_18 (gCont_i ?_)
    refine gw_istore_n (L' := [(3, vI v7), (0, vR l0), (1, vR l1), (2, vI l2)]) (Nat.le_of_ble_eq_true rfl) rfl dX11_carryOutOn_21 ?_
    refine gw_iinc (w := (1 : Int32)) (L' := [(2, vI (l2 + (1 : Int32))), (3, vI v7), (0, vR l0), (1, vR l1)]) 3 rfl (by decide) (Nat.le_of_ble_eq_true rfl) rfl dX11_carryOutOn_22 ?_
    refine gw_goto (tgt := 2) dX11_carryOutOn_25 (by decide) ?_
    exact gw_sub [2, 3, 0] rfl (hk2 _ _ _ _ hB)
theorem w_X11_carryOutOn_2 {E : gE} {F z0 n0 : Nat} {r : Int32} {s' : gS}   : ∀ (n : Nat) (l0 : Option Nat) (l1 : Option Nat) (l2 : Int32)  (s : gS), f_X11_carryOutOn_2 (gk E) F  n l0 l1 l2 s = some (r, s') → W_X11_carryOutOn E z0 n0 r s' 2 [(0, vR l0), (1, vR l1), (2, vI l2)] [] s := by
  intro n
  induction n with
  | zero => intro l0 l1 l2 s hB; cases hB
  | succ n ih => intro l0 l1 l2 s hB; exact w_X11_carryOutOn_2b ih l0 l1 l2 s hB
noncomputable def f_X11_carryOutOn_0 (κ : gK) (F : Nat)  (l0 : Option Nat) (l1 : Option Nat) (s : gS) : Option (Int32 × gS) :=
  f_X11_carryOutOn_2 κ F  F l0 l1 (0 : Int32) s
set_option maxHeartbeats 4000000 in
theorem w_X11_carryOutOn_0 {E : gE} {F z0 n0 : Nat} {r : Int32} {s' : gS}   : ∀ (l0 : Option Nat) (l1 : Option Nat)  (s : gS), f_X11_carryOutOn_0 (gk E) F  l0 l1 s = some (r, s') → W_X11_carryOutOn E z0 n0 r s' 0 [(0, vR l0), (1, vR l1)] [] s := by
  intro l0 l1 s hB
  unfold f_X11_carryOutOn_0 at hB
  refine gw_iconst (v := (0 : Int32)) (by decide) dX11_carryOutOn_0 ?_
  refine gw_istore_n (L' := [(2, vI (0 : Int32)), (0, vR l0), (1, vR l1)]) (Nat.le_of_ble_eq_true rfl) rfl dX11_carryOutOn_1 ?_
  exact gw_sub [1, 2, 0] rfl (w_X11_carryOutOn_2  F _ _ _ _ hB)
noncomputable def f_X11_carryOutOn (κ : gK) (F : Nat) (a0 : Option Nat) (a1 : Option Nat) (s : gS) : Option (Int32 × gS) := f_X11_carryOutOn_0 κ F a0 a1 s
theorem m_X11_carryOutOn {E : gE} {F : Nat} (a0 : Option Nat) (a1 : Option Nat) (s : gS) (r : Int32) (s' : gS) (h : f_X11_carryOutOn (gk E) F a0 a1 s = some (r, s')) : gCT E 15 yX11_carryOutOn (wsW_ yX11_carryOutOn cX11_carryOutOn 4 (some FieldType.int) [(2, 28, 31, 80), (2, 28, 31, 82), (2, 28, 31, 84)]) [vR a0, vR a1] s (.inl (some (vI r))) s' := by
  refine gCT_ofH (fun h => absurd h (by decide)) (by decide) (Nat.le_of_ble_eq_true rfl) ?_
  exact gw_sub [0, 1] rfl (w_X11_carryOutOn_0 _ _ _ h)
def dkwX1_first_4 : List UInt8 := [188, 10, 183, 0, 83, 182, 0, 86, 43, 176]
abbrev dktX1_first_4 : List UInt8 := dkwX1_first_4 ++ []
def dkwX1_first_3 : List UInt8 := [183, 0, 65, 83, 183, 0, 68, 76, 43, 180, 0, 71, 3, 178, 0, 75, 83, 43, 3, 187, 0, 81, 89, 3]
abbrev dktX1_first_3 : List UInt8 := dkwX1_first_3 ++ dktX1_first_4
def dkwX1_first_2 : List UInt8 := [187, 0, 63, 89, 4, 3, 4, 183, 0, 65, 83, 89, 4, 187, 0, 63, 89, 3, 17, 252, 24, 3]
abbrev dktX1_first_2 : List UInt8 := dkwX1_first_2 ++ dktX1_first_3
def dkwX1_first_1 : List UInt8 := [83, 132, 1, 1, 167, 255, 236, 187, 0, 40, 89, 42, 16, 32, 188, 10, 5, 189, 0, 63, 89, 3]
abbrev dktX1_first_1 : List UInt8 := dkwX1_first_1 ++ dktX1_first_2
def dkwX1_first_0 : List UInt8 := [16, 32, 189, 0, 58, 75, 3, 60, 27, 16, 32, 162, 0, 20, 42, 27, 187, 0, 58, 89, 27, 183, 0, 60]
abbrev dktX1_first_0 : List UInt8 := dkwX1_first_0 ++ dktX1_first_1
theorem dksX1_first_0 : cX1_first.data.toList.drop 0 = dktX1_first_0 := by decide +kernel
theorem dksX1_first_1 : cX1_first.data.toList.drop 24 = dktX1_first_1 := dk_seg dksX1_first_0 24 rfl rfl
theorem dksX1_first_2 : cX1_first.data.toList.drop 46 = dktX1_first_2 := dk_seg dksX1_first_1 22 rfl rfl
theorem dksX1_first_3 : cX1_first.data.toList.drop 68 = dktX1_first_3 := dk_seg dksX1_first_2 22 rfl rfl
theorem dksX1_first_4 : cX1_first.data.toList.drop 92 = dktX1_first_4 := dk_seg dksX1_first_3 24 rfl rfl
theorem dX1_first_0 : decode cX1_first 0 = .ok (.bipush 32, 2) := dk_16 32 (dk_at dksX1_first_0 0 rfl rfl)
theorem dX1_first_2 : decode cX1_first 2 = .ok (.anewarray 58, 3) := dk_189 0 58 (dk_at dksX1_first_0 2 rfl rfl)
theorem dX1_first_5 : decode cX1_first 5 = .ok (.astore_n 0, 1) := dk_75 (dk_at dksX1_first_0 5 rfl rfl)
theorem dX1_first_6 : decode cX1_first 6 = .ok (.iconst 0, 1) := dk_3 (dk_at dksX1_first_0 6 rfl rfl)
theorem dX1_first_7 : decode cX1_first 7 = .ok (.istore_n 1, 1) := dk_60 (dk_at dksX1_first_0 7 rfl rfl)
theorem dX1_first_8 : decode cX1_first 8 = .ok (.iload_n 1, 1) := dk_27 (dk_at dksX1_first_0 8 rfl rfl)
theorem dX1_first_9 : decode cX1_first 9 = .ok (.bipush 32, 2) := dk_16 32 (dk_at dksX1_first_0 9 rfl rfl)
theorem dX1_first_11 : decode cX1_first 11 = .ok (.if_icmp .ge 20, 3) := dk_162 0 20 (dk_at dksX1_first_0 11 rfl rfl)
theorem dX1_first_14 : decode cX1_first 14 = .ok (.aload_n 0, 1) := dk_42 (dk_at dksX1_first_0 14 rfl rfl)
theorem dX1_first_15 : decode cX1_first 15 = .ok (.iload_n 1, 1) := dk_27 (dk_at dksX1_first_0 15 rfl rfl)
theorem dX1_first_16 : decode cX1_first 16 = .ok (.new 58, 3) := dk_187 0 58 (dk_at dksX1_first_0 16 rfl rfl)
theorem dX1_first_19 : decode cX1_first 19 = .ok (.dup, 1) := dk_89 (dk_at dksX1_first_0 19 rfl rfl)
theorem dX1_first_20 : decode cX1_first 20 = .ok (.iload_n 1, 1) := dk_27 (dk_at dksX1_first_0 20 rfl rfl)
theorem dX1_first_21 : decode cX1_first 21 = .ok (.invokespecial 60, 3) := dk_183 0 60 (dk_at dksX1_first_0 21 rfl rfl)
theorem dX1_first_24 : decode cX1_first 24 = .ok (.aastore, 1) := dk_83 (dk_at dksX1_first_1 0 rfl rfl)
theorem dX1_first_25 : decode cX1_first 25 = .ok (.iinc 1 1, 3) := dk_132 1 1 (dk_at dksX1_first_1 1 rfl rfl)
theorem dX1_first_28 : decode cX1_first 28 = .ok (.goto (-20), 3) := dk_167 255 236 (dk_at dksX1_first_1 4 rfl rfl)
theorem dX1_first_31 : decode cX1_first 31 = .ok (.new 40, 3) := dk_187 0 40 (dk_at dksX1_first_1 7 rfl rfl)
theorem dX1_first_34 : decode cX1_first 34 = .ok (.dup, 1) := dk_89 (dk_at dksX1_first_1 10 rfl rfl)
theorem dX1_first_35 : decode cX1_first 35 = .ok (.aload_n 0, 1) := dk_42 (dk_at dksX1_first_1 11 rfl rfl)
theorem dX1_first_36 : decode cX1_first 36 = .ok (.bipush 32, 2) := dk_16 32 (dk_at dksX1_first_1 12 rfl rfl)
theorem dX1_first_38 : decode cX1_first 38 = .ok (.newarray .int, 2) := dk_188_10 (dk_at dksX1_first_1 14 rfl rfl)
theorem dX1_first_40 : decode cX1_first 40 = .ok (.iconst 2, 1) := dk_5 (dk_at dksX1_first_1 16 rfl rfl)
theorem dX1_first_41 : decode cX1_first 41 = .ok (.anewarray 63, 3) := dk_189 0 63 (dk_at dksX1_first_1 17 rfl rfl)
theorem dX1_first_44 : decode cX1_first 44 = .ok (.dup, 1) := dk_89 (dk_at dksX1_first_1 20 rfl rfl)
theorem dX1_first_45 : decode cX1_first 45 = .ok (.iconst 0, 1) := dk_3 (dk_at dksX1_first_1 21 rfl rfl)
theorem dX1_first_46 : decode cX1_first 46 = .ok (.new 63, 3) := dk_187 0 63 (dk_at dksX1_first_2 0 rfl rfl)
theorem dX1_first_49 : decode cX1_first 49 = .ok (.dup, 1) := dk_89 (dk_at dksX1_first_2 3 rfl rfl)
theorem dX1_first_50 : decode cX1_first 50 = .ok (.iconst 1, 1) := dk_4 (dk_at dksX1_first_2 4 rfl rfl)
theorem dX1_first_51 : decode cX1_first 51 = .ok (.iconst 0, 1) := dk_3 (dk_at dksX1_first_2 5 rfl rfl)
theorem dX1_first_52 : decode cX1_first 52 = .ok (.iconst 1, 1) := dk_4 (dk_at dksX1_first_2 6 rfl rfl)
theorem dX1_first_53 : decode cX1_first 53 = .ok (.invokespecial 65, 3) := dk_183 0 65 (dk_at dksX1_first_2 7 rfl rfl)
theorem dX1_first_56 : decode cX1_first 56 = .ok (.aastore, 1) := dk_83 (dk_at dksX1_first_2 10 rfl rfl)
theorem dX1_first_57 : decode cX1_first 57 = .ok (.dup, 1) := dk_89 (dk_at dksX1_first_2 11 rfl rfl)
theorem dX1_first_58 : decode cX1_first 58 = .ok (.iconst 1, 1) := dk_4 (dk_at dksX1_first_2 12 rfl rfl)
theorem dX1_first_59 : decode cX1_first 59 = .ok (.new 63, 3) := dk_187 0 63 (dk_at dksX1_first_2 13 rfl rfl)
theorem dX1_first_62 : decode cX1_first 62 = .ok (.dup, 1) := dk_89 (dk_at dksX1_first_2 16 rfl rfl)
theorem dX1_first_63 : decode cX1_first 63 = .ok (.iconst 0, 1) := dk_3 (dk_at dksX1_first_2 17 rfl rfl)
theorem dX1_first_64 : decode cX1_first 64 = .ok (.sipush (-1000), 3) := dk_17 252 24 (dk_at dksX1_first_2 18 rfl rfl)
theorem dX1_first_67 : decode cX1_first 67 = .ok (.iconst 0, 1) := dk_3 (dk_at dksX1_first_2 21 rfl rfl)
theorem dX1_first_68 : decode cX1_first 68 = .ok (.invokespecial 65, 3) := dk_183 0 65 (dk_at dksX1_first_3 0 rfl rfl)
theorem dX1_first_71 : decode cX1_first 71 = .ok (.aastore, 1) := dk_83 (dk_at dksX1_first_3 3 rfl rfl)
theorem dX1_first_72 : decode cX1_first 72 = .ok (.invokespecial 68, 3) := dk_183 0 68 (dk_at dksX1_first_3 4 rfl rfl)
theorem dX1_first_75 : decode cX1_first 75 = .ok (.astore_n 1, 1) := dk_76 (dk_at dksX1_first_3 7 rfl rfl)
theorem dX1_first_76 : decode cX1_first 76 = .ok (.aload_n 1, 1) := dk_43 (dk_at dksX1_first_3 8 rfl rfl)
theorem dX1_first_77 : decode cX1_first 77 = .ok (.getfield 71, 3) := dk_180 0 71 (dk_at dksX1_first_3 9 rfl rfl)
theorem dX1_first_80 : decode cX1_first 80 = .ok (.iconst 0, 1) := dk_3 (dk_at dksX1_first_3 12 rfl rfl)
theorem dX1_first_81 : decode cX1_first 81 = .ok (.getstatic 75, 3) := dk_178 0 75 (dk_at dksX1_first_3 13 rfl rfl)
theorem dX1_first_84 : decode cX1_first 84 = .ok (.aastore, 1) := dk_83 (dk_at dksX1_first_3 16 rfl rfl)
theorem dX1_first_85 : decode cX1_first 85 = .ok (.aload_n 1, 1) := dk_43 (dk_at dksX1_first_3 17 rfl rfl)
theorem dX1_first_86 : decode cX1_first 86 = .ok (.iconst 0, 1) := dk_3 (dk_at dksX1_first_3 18 rfl rfl)
theorem dX1_first_87 : decode cX1_first 87 = .ok (.new 81, 3) := dk_187 0 81 (dk_at dksX1_first_3 19 rfl rfl)
theorem dX1_first_90 : decode cX1_first 90 = .ok (.dup, 1) := dk_89 (dk_at dksX1_first_3 22 rfl rfl)
theorem dX1_first_91 : decode cX1_first 91 = .ok (.iconst 0, 1) := dk_3 (dk_at dksX1_first_3 23 rfl rfl)
theorem dX1_first_92 : decode cX1_first 92 = .ok (.newarray .int, 2) := dk_188_10 (dk_at dksX1_first_4 0 rfl rfl)
theorem dX1_first_94 : decode cX1_first 94 = .ok (.invokespecial 83, 3) := dk_183 0 83 (dk_at dksX1_first_4 2 rfl rfl)
theorem dX1_first_97 : decode cX1_first 97 = .ok (.invokevirtual 86, 3) := dk_182 0 86 (dk_at dksX1_first_4 5 rfl rfl)
theorem dX1_first_100 : decode cX1_first 100 = .ok (.aload_n 1, 1) := dk_43 (dk_at dksX1_first_4 8 rfl rfl)
theorem dX1_first_101 : decode cX1_first 101 = .ok (.areturn, 1) := dk_176 (dk_at dksX1_first_4 9 rfl rfl)
/-! PageGarden.first()LPageGarden$Garden; -/
abbrev M_X1_first (z0 n0 : Nat) (s' : gS) : gM := (RX1, cX1_first, 2, (some (FieldType.object "PageGarden$Garden")), "first", [], 7, z0, n0, s'.2.1, s'.2.2)
abbrev W_X1_first (E : gE) (z0 n0 : Nat) (r : (Option Nat)) (s' : gS) (pc : Nat) (L : List (Nat × gV)) (st : List gV) (s : gS) : Prop := gW E (M_X1_first z0 n0 s') (gQm E (M_X1_first z0 n0 s') (.inl (some (vR r))) s') pc L st s
noncomputable def f_X1_first_8b (κ : gK) (F : Nat) (k8 : Option Nat → Int32 → gS → Option ((Option Nat) × gS)) (l0 : Option Nat) (l1 : Int32) (s : gS) : Option ((Option Nat) × gS) :=
  if (32 : Int32) ≤ l1 then
    gB2 (gnw s 7 g0_X3 9) fun v1 s2 =>
    gB2 (gna s2 0 (32 : Int32)) fun v3 s4 =>
    gB2 (gna s4 5 (2 : Int32)) fun v5 s6 =>
    gB2 (gnw s6 4 g0_X4 3) fun v7 s8 =>
    gB1 (gsm v7) fun _ =>
    gB2 (f_X4_init κ F v7 (1 : Int32) (0 : Int32) (1 : Int32) s8) fun v10 s9 =>
    gB1 (gsR κ s9 v5 (0 : Int32) v7) fun s12 =>
    gB2 (gnw s12 4 g0_X4 3) fun v13 s14 =>
    gB1 (gsm v13) fun _ =>
    gB2 (f_X4_init κ F v13 (0 : Int32) (-1000 : Int32) (0 : Int32) s14) fun v16 s15 =>
    gB1 (gsR κ s15 v5 (1 : Int32) v13) fun s18 =>
    gB1 (gsm v1) fun _ =>
    gB2 (f_X3_init κ F v1 l0 v3 v5 s18) fun v20 s19 =>
    gB1 (gfR s19 v1 7 1) fun v22 =>
    gB1 (gsR κ s19 v22 (0 : Int32) (κ.2 1)) fun s23 =>
    gB2 (gnw s23 3 g0_X5 1) fun v24 s25 =>
    gB2 (gna s25 0 (0 : Int32)) fun v26 s27 =>
    gB1 (gsm v24) fun _ =>
    gB2 (f_X5_init κ F v24 v26 s27) fun v29 s28 =>
    gB1 (gck s28 v1 7) fun _ =>
    gB2 (f_X3_lay κ F v1 (0 : Int32) v24 s28) fun v32 s31 =>
    some (v1, s31)
  else
    gB2 (gnw s 1 g0_X2 1) fun v34 s35 =>
    gB1 (gsm v34) fun _ =>
    gB2 (f_X2_init κ F v34 l1 s35) fun v37 s36 =>
    gB1 (gsR κ s36 l0 l1 v34) fun s39 =>
    k8 l0 (l1 + (1 : Int32)) s39
noncomputable def f_X1_first_8 (κ : gK) (F : Nat)  : Nat → Option Nat → Int32 → gS → Option ((Option Nat) × gS)
  | 0 => fun _ _ _ => none
  | n + 1 => f_X1_first_8b κ F  (f_X1_first_8 κ F  n)
set_option maxHeartbeats 4000000 in
theorem w_X1_first_8b {E : gE} {F z0 n0 : Nat} {r : (Option Nat)} {s' : gS} {k8 : Option Nat → Int32 → gS → Option ((Option Nat) × gS)} (hk8 : ∀ (l0 : Option Nat) (l1 : Int32) (s : gS), k8 l0 l1 s = some (r, s') → W_X1_first E z0 n0 r s' 8 [(0, vR l0), (1, vI l1)] [] s) : ∀ (l0 : Option Nat) (l1 : Int32)  (s : gS), f_X1_first_8b (gk E) F k8 l0 l1 s = some (r, s') → W_X1_first E z0 n0 r s' 8 [(0, vR l0), (1, vI l1)] [] s := by
  intro l0 l1 s hB
  unfold f_X1_first_8b at hB
  refine gw_iload_n 1 rfl dX1_first_8 ?_
  refine gw_bipush (v := (32 : Int32)) (by decide) dX1_first_9 ?_
  refine gw_icmp_ge (tgt := 31) dX1_first_11 (by decide) (fun hcnd => ?_) (fun hcnd => ?_)
  · rw [if_pos hcnd] at hB
    obtain ⟨v1, s2, hv1, hB⟩ := gB2_some hB
    refine gw_new (C := RX3) (T := TX3) (N := 9) tyX3 tyX3_ok gcl7 in_X3 q189 q190 q110 g0_X3_ok hv1 dX1_first_31 ?_
    refine gw_dup rfl dX1_first_34 ?_
    refine gw_aload_n 0 rfl dX1_first_35 ?_
    refine gw_bipush (v := (32 : Int32)) (by decide) dX1_first_36 ?_
    obtain ⟨v3, s4, hv3, hB⟩ := gB2_some hB
    refine gw_newarr (atype := .int) (t := 0) rfl rfl rfl (by decide) rfl q211 hv3 dX1_first_38 ?_
    refine gw_iconst (v := (2 : Int32)) (by decide) dX1_first_40 ?_
    obtain ⟨v5, s6, hv5, hB⟩ := gB2_some hB
    refine gw_anewarr (C := "PageGarden$Root") (t := 5) (by decide) rfl q191 q192 hv5 dX1_first_41 ?_
    refine gw_dup rfl dX1_first_44 ?_
    refine gw_iconst (v := (0 : Int32)) (by decide) dX1_first_45 ?_
    obtain ⟨v7, s8, hv7, hB⟩ := gB2_some hB
    refine gw_new (C := RX4) (T := TX4) (N := 3) tyX4 tyX4_ok gcl4 in_X4 q191 q193 q111 g0_X4_ok hv7 dX1_first_46 ?_
    refine gw_dup rfl dX1_first_49 ?_
    refine gw_iconst (v := (1 : Int32)) (by decide) dX1_first_50 ?_
    refine gw_iconst (v := (0 : Int32)) (by decide) dX1_first_51 ?_
    refine gw_iconst (v := (1 : Int32)) (by decide) dX1_first_52 ?_
    obtain ⟨u0, hu11, hB⟩ := gB1_some hB
    obtain ⟨v10, s9, hv10, hB⟩ := gB2_some hB
    refine gw_callI (y := yX4_init) (lw_meth q196) q111 q194 q195 rfl hdS_X4_init (gsm_spec hu11) (As := [vI (1 : Int32), vI (0 : Int32), vI (1 : Int32)]) (rest := [vR v7, vI (0 : Int32), vR v5, vR v5, vR v3, vR l0, vR v1, vR v1]) (m_X4_init _ _ _ _ _ _ _ hv10) (Nat.le_of_ble_eq_true rfl) (Nat.le_of_ble_eq_true rfl) rfl (Nat.le_of_ble_eq_true rfl) dX1_first_53 (gCont_v ?_)
    obtain ⟨s12, hs12, hB⟩ := gB1_some hB
    refine gw_aastore hs12 dX1_first_56 ?_
    refine gw_dup rfl dX1_first_57 ?_
    refine gw_iconst (v := (1 : Int32)) (by decide) dX1_first_58 ?_
    obtain ⟨v13, s14, hv13, hB⟩ := gB2_some hB
    refine gw_new (C := RX4) (T := TX4) (N := 3) tyX4 tyX4_ok gcl4 in_X4 q191 q193 q111 g0_X4_ok hv13 dX1_first_59 ?_
    refine gw_dup rfl dX1_first_62 ?_
    refine gw_iconst (v := (0 : Int32)) (by decide) dX1_first_63 ?_
    refine gw_sipush (v := (-1000 : Int32)) (by decide) dX1_first_64 ?_
    refine gw_iconst (v := (0 : Int32)) (by decide) dX1_first_67 ?_
    obtain ⟨u0, hu17, hB⟩ := gB1_some hB
    obtain ⟨v16, s15, hv16, hB⟩ := gB2_some hB
    refine gw_callI (y := yX4_init) (lw_meth q196) q111 q194 q195 rfl hdS_X4_init (gsm_spec hu17) (As := [vI (0 : Int32), vI (-1000 : Int32), vI (0 : Int32)]) (rest := [vR v13, vI (1 : Int32), vR v5, vR v5, vR v3, vR l0, vR v1, vR v1]) (m_X4_init _ _ _ _ _ _ _ hv16) (Nat.le_of_ble_eq_true rfl) (Nat.le_of_ble_eq_true rfl) rfl (Nat.le_of_ble_eq_true rfl) dX1_first_68 (gCont_v ?_)
    obtain ⟨s18, hs18, hB⟩ := gB1_some hB
    refine gw_aastore hs18 dX1_first_71 ?_
    obtain ⟨u0, hu21, hB⟩ := gB1_some hB
    obtain ⟨v20, s19, hv20, hB⟩ := gB2_some hB
    refine gw_callI (y := yX3_init) (lw_meth q214) q110 q212 q213 rfl hdS_X3_init (gsm_spec hu21) (As := [vR l0, vR v3, vR v5]) (rest := [vR v1]) (m_X3_init _ _ _ _ _ _ _ hv20) (Nat.le_of_ble_eq_true rfl) (Nat.le_of_ble_eq_true rfl) rfl (Nat.le_of_ble_eq_true rfl) dX1_first_72 (gCont_v ?_)
    refine gw_astore_n (L' := [(1, vR v1), (0, vR l0)]) (Nat.le_of_ble_eq_true rfl) rfl dX1_first_75 ?_
    refine gw_aload_n 0 rfl dX1_first_76 ?_
    obtain ⟨v22, hv22, hB⟩ := gB1_some hB
    refine gw_getfN (C := RX3) (T := TX3) (N := 9) (k := 1) gcl7 (by decide) in_X3 q283 (gfR_spec hv22) dX1_first_77 ?_
    refine gw_iconst (v := (0 : Int32)) (by decide) dX1_first_80 ?_
    refine gw_gets (i := 1) (by decide) q312 dX1_first_81 ?_
    obtain ⟨s23, hs23, hB⟩ := gB1_some hB
    refine gw_aastore hs23 dX1_first_84 ?_
    refine gw_aload_n 0 rfl dX1_first_85 ?_
    refine gw_iconst (v := (0 : Int32)) (by decide) dX1_first_86 ?_
    obtain ⟨v24, s25, hv24, hB⟩ := gB2_some hB
    refine gw_new (C := RX5) (T := TX5) (N := 1) tyX5 tyX5_ok gcl3 in_X5 q314 q315 q117 g0_X5_ok hv24 dX1_first_87 ?_
    refine gw_dup rfl dX1_first_90 ?_
    refine gw_iconst (v := (0 : Int32)) (by decide) dX1_first_91 ?_
    obtain ⟨v26, s27, hv26, hB⟩ := gB2_some hB
    refine gw_newarr (atype := .int) (t := 0) rfl rfl rfl (by decide) rfl q211 hv26 dX1_first_92 ?_
    obtain ⟨u0, hu30, hB⟩ := gB1_some hB
    obtain ⟨v29, s28, hv29, hB⟩ := gB2_some hB
    refine gw_callI (y := yX5_init) (lw_meth q318) q117 q316 q317 rfl hdS_X5_init (gsm_spec hu30) (As := [vR v26]) (rest := [vR v24, vI (0 : Int32), vR v1]) (m_X5_init _ _ _ _ _ hv29) (Nat.le_of_ble_eq_true rfl) (Nat.le_of_ble_eq_true rfl) rfl (Nat.le_of_ble_eq_true rfl) dX1_first_94 (gCont_v ?_)
    obtain ⟨u0, hu33, hB⟩ := gB1_some hB
    obtain ⟨v32, s31, hv32, hB⟩ := gB2_some hB
    refine gw_callVN (y := yX3_lay) (lw_meth q328) q110 q325 q327 qs0 hdS_X3_lay gcl7 hu33 (As := [vI (0 : Int32), vR v24]) (rest := []) (m_X3_lay _ _ _ _ _ _ hv32) (Nat.le_of_ble_eq_true rfl) (Nat.le_of_ble_eq_true rfl) rfl (Nat.le_of_ble_eq_true rfl) dX1_first_97 (gCont_v ?_)
    refine gw_aload_n 0 rfl dX1_first_100 ?_
    obtain ⟨rfl, rfl⟩ := Prod.mk.inj (Option.some.inj hB)
    exact gw_aret rfl (Or.inl ⟨_, rfl⟩) rfl rfl dX1_first_101
  · rw [if_neg hcnd] at hB
    refine gw_aload_n 0 rfl dX1_first_14 ?_
    refine gw_iload_n 1 rfl dX1_first_15 ?_
    obtain ⟨v34, s35, hv34, hB⟩ := gB2_some hB
    refine gw_new (C := RX2) (T := TX2) (N := 1) tyX2 tyX2_ok gcl1 in_X2 q177 q179 q109 g0_X2_ok hv34 dX1_first_16 ?_
    refine gw_dup rfl dX1_first_19 ?_
    refine gw_iload_n 1 rfl dX1_first_20 ?_
    obtain ⟨u0, hu38, hB⟩ := gB1_some hB
    obtain ⟨v37, s36, hv37, hB⟩ := gB2_some hB
    refine gw_callI (y := yX2_init) (lw_meth q182) q109 q180 q181 rfl hdS_X2_init (gsm_spec hu38) (As := [vI l1]) (rest := [vR v34, vI l1, vR l0]) (m_X2_init _ _ _ _ _ hv37) (Nat.le_of_ble_eq_true rfl) (Nat.le_of_ble_eq_true rfl) rfl (Nat.le_of_ble_eq_true rfl) dX1_first_21 (gCont_v ?_)
    obtain ⟨s39, hs39, hB⟩ := gB1_some hB
    refine gw_aastore hs39 dX1_first_24 ?_
    refine gw_iinc (w := (1 : Int32)) (L' := [(1, vI (l1 + (1 : Int32))), (0, vR l0)]) 1 rfl (by decide) (Nat.le_of_ble_eq_true rfl) rfl dX1_first_25 ?_
    refine gw_goto (tgt := 8) dX1_first_28 (by decide) ?_
    exact gw_sub [1, 0] rfl (hk8 _ _ _ hB)
theorem w_X1_first_8 {E : gE} {F z0 n0 : Nat} {r : (Option Nat)} {s' : gS}   : ∀ (n : Nat) (l0 : Option Nat) (l1 : Int32)  (s : gS), f_X1_first_8 (gk E) F  n l0 l1 s = some (r, s') → W_X1_first E z0 n0 r s' 8 [(0, vR l0), (1, vI l1)] [] s := by
  intro n
  induction n with
  | zero => intro l0 l1 s hB; cases hB
  | succ n ih => intro l0 l1 s hB; exact w_X1_first_8b ih l0 l1 s hB
noncomputable def f_X1_first_0 (κ : gK) (F : Nat)   (s : gS) : Option ((Option Nat) × gS) :=
  gB2 (gna s 3 (32 : Int32)) fun v1 s2 =>
  f_X1_first_8 κ F  F v1 (0 : Int32) s2
set_option maxHeartbeats 4000000 in
theorem w_X1_first_0 {E : gE} {F z0 n0 : Nat} {r : (Option Nat)} {s' : gS}   : ∀   (s : gS), f_X1_first_0 (gk E) F   s = some (r, s') → W_X1_first E z0 n0 r s' 0 [] [] s := by
  intro  s hB
  unfold f_X1_first_0 at hB
  refine gw_bipush (v := (32 : Int32)) (by decide) dX1_first_0 ?_
  obtain ⟨v1, s2, hv1, hB⟩ := gB2_some hB
  refine gw_anewarr (C := "PageGarden$Bed") (t := 3) (by decide) rfl q177 q178 hv1 dX1_first_2 ?_
  refine gw_astore_n (L' := [(0, vR v1)]) (Nat.le_of_ble_eq_true rfl) rfl dX1_first_5 ?_
  refine gw_iconst (v := (0 : Int32)) (by decide) dX1_first_6 ?_
  refine gw_istore_n (L' := [(1, vI (0 : Int32)), (0, vR v1)]) (Nat.le_of_ble_eq_true rfl) rfl dX1_first_7 ?_
  exact gw_sub [1, 0] rfl (w_X1_first_8  F _ _ _ hB)
noncomputable def f_X1_first (κ : gK) (F : Nat)  (s : gS) : Option ((Option Nat) × gS) := f_X1_first_0 κ F  s
theorem m_X1_first {E : gE} {F : Nat}  (s : gS) (r : (Option Nat)) (s' : gS) (h : f_X1_first (gk E) F  s = some (r, s')) : gCT E 7 yX1_first (ws_ yX1_first cX1_first 2 (some (FieldType.object "PageGarden$Garden"))) [] s (.inl (some (vR r))) s' := by
  refine gCT_of2 (fun h => absurd h (by decide)) (plainFor_of_name (by decide)) (Nat.le_of_ble_eq_true rfl) ?_
  exact gw_sub [] rfl (w_X1_first_0  _ h)
def dkwJ24_init_0 : List UInt8 := [42, 183, 0, 1, 42, 3, 181, 0, 7, 177]
abbrev dktJ24_init_0 : List UInt8 := dkwJ24_init_0 ++ []
theorem dksJ24_init_0 : cJ24_init.data.toList.drop 0 = dktJ24_init_0 := by decide +kernel
theorem dJ24_init_0 : decode cJ24_init 0 = .ok (.aload_n 0, 1) := dk_42 (dk_at dksJ24_init_0 0 rfl rfl)
theorem dJ24_init_1 : decode cJ24_init 1 = .ok (.invokespecial 1, 3) := dk_183 0 1 (dk_at dksJ24_init_0 1 rfl rfl)
theorem dJ24_init_4 : decode cJ24_init 4 = .ok (.aload_n 0, 1) := dk_42 (dk_at dksJ24_init_0 4 rfl rfl)
theorem dJ24_init_5 : decode cJ24_init 5 = .ok (.iconst 0, 1) := dk_3 (dk_at dksJ24_init_0 5 rfl rfl)
theorem dJ24_init_6 : decode cJ24_init 6 = .ok (.putfield 7, 3) := dk_181 0 7 (dk_at dksJ24_init_0 6 rfl rfl)
theorem dJ24_init_9 : decode cJ24_init 9 = .ok (.return_, 1) := dk_177 (dk_at dksJ24_init_0 9 rfl rfl)
/-! java/util/AbstractList.<init>()V -/
abbrev M_J24_init (z0 n0 : Nat) (s' : gS) : gM := (RJ24, cJ24_init, 1, none, "<init>", [], 2, z0, n0, s'.2.1, s'.2.2)
abbrev W_J24_init (E : gE) (z0 n0 : Nat) (r : Unit) (s' : gS) (pc : Nat) (L : List (Nat × gV)) (st : List gV) (s : gS) : Prop := gW E (M_J24_init z0 n0 s') (gQm E (M_J24_init z0 n0 s') (.inl none) s') pc L st s
noncomputable def f_J24_init_0 (κ : gK) (F : Nat)  (l0 : Option Nat) (s : gS) : Option (Unit × gS) :=
  gB1 (gsm l0) fun _ =>
  gB2 (f_J23_init κ F l0  s) fun v2 s1 =>
  gB1 (gpf κ s1 l0 13 0 (.int (0 : Int32))) fun s4 =>
  some ((), s4)
set_option maxHeartbeats 4000000 in
theorem w_J24_init_0 {E : gE} {F z0 n0 : Nat} {r : Unit} {s' : gS}   : ∀ (l0 : Option Nat)  (s : gS), f_J24_init_0 (gk E) F  l0 s = some (r, s') → W_J24_init E z0 n0 r s' 0 [(0, vR l0)] [] s := by
  intro l0 s hB
  unfold f_J24_init_0 at hB
  refine gw_aload_n 0 rfl dJ24_init_0 ?_
  obtain ⟨u0, hu3, hB⟩ := gB1_some hB
  obtain ⟨v2, s1, hv2, hB⟩ := gB2_some hB
  refine gw_callI (y := yJ23_init) (lw_meth q1255) q140 q1253 q1254 rfl hdS_J23_init (gsm_spec hu3) (As := []) (rest := []) (m_J23_init _ _ _ _ hv2) (Nat.le_of_ble_eq_true rfl) (Nat.le_of_ble_eq_true rfl) rfl (Nat.le_of_ble_eq_true rfl) dJ24_init_1 (gCont_v ?_)
  refine gw_aload_n 0 rfl dJ24_init_4 ?_
  refine gw_iconst (v := (0 : Int32)) (by decide) dJ24_init_5 ?_
  obtain ⟨s4, hs4, hB⟩ := gB1_some hB
  refine gw_putf (C := RJ25) (T := TJ25) (N := 3) (k := 0) tyJ25 tyJ25_ok nmJ25 gcl13 (by decide) in_J25 q1261 rfl (tyJ25_ok 0 (by decide)) (gNF_i _) hs4 dJ24_init_6 ?_
  obtain ⟨rfl, rfl⟩ := Prod.mk.inj (Option.some.inj hB)
  exact gw_vret rfl rfl rfl dJ24_init_9
noncomputable def f_J24_init (κ : gK) (F : Nat) (a0 : Option Nat) (s : gS) : Option (Unit × gS) := f_J24_init_0 κ F a0 s
theorem m_J24_init {E : gE} {F : Nat} (a0 : Option Nat) (s : gS) (r : Unit) (s' : gS) (h : f_J24_init (gk E) F a0 s = some (r, s')) : gCT E 2 yJ24_init (ws_ yJ24_init cJ24_init 1 none) [vR a0] s (.inl none) s' := by
  refine gCT_of2 (fun h => absurd h (by decide)) (plainFor_of_name (by decide)) (Nat.le_of_ble_eq_true rfl) ?_
  exact gw_sub [0] rfl (w_J24_init_0 _ _ h)
def dkwJ25_init_0 : List UInt8 := [42, 183, 0, 1, 42, 178, 0, 39, 181, 0, 9, 177]
abbrev dktJ25_init_0 : List UInt8 := dkwJ25_init_0 ++ []
theorem dksJ25_init_0 : cJ25_init.data.toList.drop 0 = dktJ25_init_0 := by decide +kernel
theorem dJ25_init_0 : decode cJ25_init 0 = .ok (.aload_n 0, 1) := dk_42 (dk_at dksJ25_init_0 0 rfl rfl)
theorem dJ25_init_1 : decode cJ25_init 1 = .ok (.invokespecial 1, 3) := dk_183 0 1 (dk_at dksJ25_init_0 1 rfl rfl)
theorem dJ25_init_4 : decode cJ25_init 4 = .ok (.aload_n 0, 1) := dk_42 (dk_at dksJ25_init_0 4 rfl rfl)
theorem dJ25_init_5 : decode cJ25_init 5 = .ok (.getstatic 39, 3) := dk_178 0 39 (dk_at dksJ25_init_0 5 rfl rfl)
theorem dJ25_init_8 : decode cJ25_init 8 = .ok (.putfield 9, 3) := dk_181 0 9 (dk_at dksJ25_init_0 8 rfl rfl)
theorem dJ25_init_11 : decode cJ25_init 11 = .ok (.return_, 1) := dk_177 (dk_at dksJ25_init_0 11 rfl rfl)
/-! java/util/ArrayList.<init>()V -/
abbrev M_J25_init (z0 n0 : Nat) (s' : gS) : gM := (RJ25, cJ25_init, 1, none, "<init>", [], 3, z0, n0, s'.2.1, s'.2.2)
abbrev W_J25_init (E : gE) (z0 n0 : Nat) (r : Unit) (s' : gS) (pc : Nat) (L : List (Nat × gV)) (st : List gV) (s : gS) : Prop := gW E (M_J25_init z0 n0 s') (gQm E (M_J25_init z0 n0 s') (.inl none) s') pc L st s
noncomputable def f_J25_init_0 (κ : gK) (F : Nat)  (l0 : Option Nat) (s : gS) : Option (Unit × gS) :=
  gB1 (gsm l0) fun _ =>
  gB2 (f_J24_init κ F l0  s) fun v2 s1 =>
  gB1 (gpf κ s1 l0 13 1 (va_rf (κ.2 4))) fun s4 =>
  some ((), s4)
set_option maxHeartbeats 4000000 in
theorem w_J25_init_0 {E : gE} {F z0 n0 : Nat} {r : Unit} {s' : gS}   : ∀ (l0 : Option Nat)  (s : gS), f_J25_init_0 (gk E) F  l0 s = some (r, s') → W_J25_init E z0 n0 r s' 0 [(0, vR l0)] [] s := by
  intro l0 s hB
  unfold f_J25_init_0 at hB
  refine gw_aload_n 0 rfl dJ25_init_0 ?_
  obtain ⟨u0, hu3, hB⟩ := gB1_some hB
  obtain ⟨v2, s1, hv2, hB⟩ := gB2_some hB
  refine gw_callI (y := yJ24_init) (lw_meth q1252) q141 q1250 q1251 rfl hdS_J24_init (gsm_spec hu3) (As := []) (rest := []) (m_J24_init _ _ _ _ hv2) (Nat.le_of_ble_eq_true rfl) (Nat.le_of_ble_eq_true rfl) rfl (Nat.le_of_ble_eq_true rfl) dJ25_init_1 (gCont_v ?_)
  refine gw_aload_n 0 rfl dJ25_init_4 ?_
  refine gw_gets (i := 4) (by decide) q1257 dJ25_init_5 ?_
  obtain ⟨s4, hs4, hB⟩ := gB1_some hB
  refine gw_putf (C := RJ25) (T := TJ25) (N := 3) (k := 1) tyJ25 tyJ25_ok nmJ25 gcl13 (by decide) in_J25 q1259 rfl (tyJ25_ok 1 (by decide)) (gNF_a _ _) hs4 dJ25_init_8 ?_
  obtain ⟨rfl, rfl⟩ := Prod.mk.inj (Option.some.inj hB)
  exact gw_vret rfl rfl rfl dJ25_init_11
noncomputable def f_J25_init (κ : gK) (F : Nat) (a0 : Option Nat) (s : gS) : Option (Unit × gS) := f_J25_init_0 κ F a0 s
theorem m_J25_init {E : gE} {F : Nat} (a0 : Option Nat) (s : gS) (r : Unit) (s' : gS) (h : f_J25_init (gk E) F a0 s = some (r, s')) : gCT E 3 yJ25_init (ws_ yJ25_init cJ25_init 1 none) [vR a0] s (.inl none) s' := by
  refine gCT_of2 (fun h => absurd h (by decide)) (plainFor_of_name (by decide)) (Nat.le_of_ble_eq_true rfl) ?_
  exact gw_sub [0] rfl (w_J25_init_0 _ _ h)
def dkwX1_init_1 : List UInt8 := [17, 0, 150, 188, 8, 181, 0, 110, 177]
abbrev dktX1_init_1 : List UInt8 := dkwX1_init_1 ++ []
def dkwX1_init_0 : List UInt8 := [42, 183, 0, 90, 42, 184, 0, 95, 181, 0, 99, 42, 187, 0, 103, 89, 183, 0, 105, 181, 0, 106, 42]
abbrev dktX1_init_0 : List UInt8 := dkwX1_init_0 ++ dktX1_init_1
theorem dksX1_init_0 : cX1_init.data.toList.drop 0 = dktX1_init_0 := by decide +kernel
theorem dksX1_init_1 : cX1_init.data.toList.drop 23 = dktX1_init_1 := dk_seg dksX1_init_0 23 rfl rfl
theorem dX1_init_0 : decode cX1_init 0 = .ok (.aload_n 0, 1) := dk_42 (dk_at dksX1_init_0 0 rfl rfl)
theorem dX1_init_1 : decode cX1_init 1 = .ok (.invokespecial 90, 3) := dk_183 0 90 (dk_at dksX1_init_0 1 rfl rfl)
theorem dX1_init_4 : decode cX1_init 4 = .ok (.aload_n 0, 1) := dk_42 (dk_at dksX1_init_0 4 rfl rfl)
theorem dX1_init_5 : decode cX1_init 5 = .ok (.invokestatic 95, 3) := dk_184 0 95 (dk_at dksX1_init_0 5 rfl rfl)
theorem dX1_init_8 : decode cX1_init 8 = .ok (.putfield 99, 3) := dk_181 0 99 (dk_at dksX1_init_0 8 rfl rfl)
theorem dX1_init_11 : decode cX1_init 11 = .ok (.aload_n 0, 1) := dk_42 (dk_at dksX1_init_0 11 rfl rfl)
theorem dX1_init_12 : decode cX1_init 12 = .ok (.new 103, 3) := dk_187 0 103 (dk_at dksX1_init_0 12 rfl rfl)
theorem dX1_init_15 : decode cX1_init 15 = .ok (.dup, 1) := dk_89 (dk_at dksX1_init_0 15 rfl rfl)
theorem dX1_init_16 : decode cX1_init 16 = .ok (.invokespecial 105, 3) := dk_183 0 105 (dk_at dksX1_init_0 16 rfl rfl)
theorem dX1_init_19 : decode cX1_init 19 = .ok (.putfield 106, 3) := dk_181 0 106 (dk_at dksX1_init_0 19 rfl rfl)
theorem dX1_init_22 : decode cX1_init 22 = .ok (.aload_n 0, 1) := dk_42 (dk_at dksX1_init_0 22 rfl rfl)
theorem dX1_init_23 : decode cX1_init 23 = .ok (.sipush 150, 3) := dk_17 0 150 (dk_at dksX1_init_1 0 rfl rfl)
theorem dX1_init_26 : decode cX1_init 26 = .ok (.newarray .byte, 2) := dk_188_8 (dk_at dksX1_init_1 3 rfl rfl)
theorem dX1_init_28 : decode cX1_init 28 = .ok (.putfield 110, 3) := dk_181 0 110 (dk_at dksX1_init_1 5 rfl rfl)
theorem dX1_init_31 : decode cX1_init 31 = .ok (.return_, 1) := dk_177 (dk_at dksX1_init_1 8 rfl rfl)
/-! PageGarden.<init>()V -/
abbrev M_X1_init (z0 n0 : Nat) (s' : gS) : gM := (RX1, cX1_init, 1, none, "<init>", [], 8, z0, n0, s'.2.1, s'.2.2)
abbrev W_X1_init (E : gE) (z0 n0 : Nat) (r : Unit) (s' : gS) (pc : Nat) (L : List (Nat × gV)) (st : List gV) (s : gS) : Prop := gW E (M_X1_init z0 n0 s') (gQm E (M_X1_init z0 n0 s') (.inl none) s') pc L st s
noncomputable def f_X1_init_0 (κ : gK) (F : Nat)  (l0 : Option Nat) (s : gS) : Option (Unit × gS) :=
  gB1 (gsm l0) fun _ =>
  gB2 (f_X1_first κ F  s) fun v3 s2 =>
  gB1 (gpf κ s2 l0 0 0 (va_rf v3)) fun s4 =>
  gB2 (gnw s4 13 g0_J25 3) fun v5 s6 =>
  gB1 (gsm v5) fun _ =>
  gB2 (f_J25_init κ F v5  s6) fun v8 s7 =>
  gB1 (gpf κ s7 l0 0 1 (va_rf v5)) fun s10 =>
  gB2 (gna s10 2 (150 : Int32)) fun v11 s12 =>
  gB1 (gpf κ s12 l0 0 2 (va_rf v11)) fun s13 =>
  some ((), s13)
set_option maxHeartbeats 4000000 in
theorem w_X1_init_0 {E : gE} {F z0 n0 : Nat} {r : Unit} {s' : gS}   : ∀ (l0 : Option Nat)  (s : gS), f_X1_init_0 (gk E) F  l0 s = some (r, s') → W_X1_init E z0 n0 r s' 0 [(0, vR l0)] [] s := by
  intro l0 s hB
  unfold f_X1_init_0 at hB
  refine gw_aload_n 0 rfl dX1_init_0 ?_
  obtain ⟨u0, hu1, hB⟩ := gB1_some hB
  refine gw_objInit (gsm_spec hu1) q171 q172 q173 (Nat.le_of_ble_eq_true rfl) (Nat.le_of_ble_eq_true rfl) dX1_init_1 ?_
  refine gw_aload_n 0 rfl dX1_init_4 ?_
  obtain ⟨v3, s2, hv3, hB⟩ := gB2_some hB
  refine gw_callS (y := yX1_first) (lw_S q174 q175 q108 q176) hdS_X1_first (As := []) (rest := [vR l0]) (m_X1_first  _ _ _ hv3) (Nat.le_of_ble_eq_true rfl) (Nat.le_of_ble_eq_true rfl) rfl (Nat.le_of_ble_eq_true rfl) dX1_init_5 (gCont_i ?_)
  obtain ⟨s4, hs4, hB⟩ := gB1_some hB
  refine gw_putf (C := RX1) (T := TX1) (N := 4) (k := 0) tyX1 tyX1_ok nmX1 gcl0 (by decide) in_X1 q1271 rfl (tyX1_ok 0 (by decide)) (gNF_o _ _) hs4 dX1_init_8 ?_
  refine gw_aload_n 0 rfl dX1_init_11 ?_
  obtain ⟨v5, s6, hv5, hB⟩ := gB2_some hB
  refine gw_new (C := RJ25) (T := TJ25) (N := 3) tyJ25 tyJ25_ok gcl13 in_J25 q1245 q1246 q142 g0_J25_ok hv5 dX1_init_12 ?_
  refine gw_dup rfl dX1_init_15 ?_
  obtain ⟨u0, hu9, hB⟩ := gB1_some hB
  obtain ⟨v8, s7, hv8, hB⟩ := gB2_some hB
  refine gw_callI (y := yJ25_init) (lw_meth q1249) q142 q1247 q1248 rfl hdS_J25_init (gsm_spec hu9) (As := []) (rest := [vR v5, vR l0]) (m_J25_init _ _ _ _ hv8) (Nat.le_of_ble_eq_true rfl) (Nat.le_of_ble_eq_true rfl) rfl (Nat.le_of_ble_eq_true rfl) dX1_init_16 (gCont_v ?_)
  obtain ⟨s10, hs10, hB⟩ := gB1_some hB
  refine gw_putfF (C := RX1) (T := TX1) (N := 4) (k := 1) tyX1 tyX1_ok nmX1 gcl0 (by decide) in_X1 q1272 rfl rfl rfl (tyX1_ok 1 (by decide)) (gNF_o _ _) hs10 dX1_init_19 ?_
  refine gw_aload_n 0 rfl dX1_init_22 ?_
  refine gw_sipush (v := (150 : Int32)) (by decide) dX1_init_23 ?_
  obtain ⟨v11, s12, hv11, hB⟩ := gB2_some hB
  refine gw_newarr (atype := .byte) (t := 2) rfl rfl rfl (by decide) rfl q515 hv11 dX1_init_26 ?_
  obtain ⟨s13, hs13, hB⟩ := gB1_some hB
  refine gw_putfF (C := RX1) (T := TX1) (N := 4) (k := 2) tyX1 tyX1_ok nmX1 gcl0 (by decide) in_X1 q1274 rfl rfl rfl (tyX1_ok 2 (by decide)) (gNF_a _ _) hs13 dX1_init_28 ?_
  obtain ⟨rfl, rfl⟩ := Prod.mk.inj (Option.some.inj hB)
  exact gw_vret rfl rfl rfl dX1_init_31
noncomputable def f_X1_init (κ : gK) (F : Nat) (a0 : Option Nat) (s : gS) : Option (Unit × gS) := f_X1_init_0 κ F a0 s
theorem m_X1_init {E : gE} {F : Nat} (a0 : Option Nat) (s : gS) (r : Unit) (s' : gS) (h : f_X1_init (gk E) F a0 s = some (r, s')) : gCT E 8 yX1_init (ws_ yX1_init cX1_init 1 none) [vR a0] s (.inl none) s' := by
  refine gCT_of2 (fun h => absurd h (by decide)) (plainFor_of_name (by decide)) (Nat.le_of_ble_eq_true rfl) ?_
  exact gw_sub [0] rfl (w_X1_init_0 _ _ h)
theorem dJ25_size_0 : decode cJ25_size 0 = .ok (.aload_n 0, 1) := by decide +kernel
theorem dJ25_size_1 : decode cJ25_size 1 = .ok (.getfield 48, 3) := by decide +kernel
theorem dJ25_size_4 : decode cJ25_size 4 = .ok (.ireturn, 1) := by decide +kernel
/-! java/util/ArrayList.size()I -/
abbrev M_J25_size (z0 n0 : Nat) (s' : gS) : gM := (RJ25, cJ25_size, 1, (some FieldType.int), "size", [], 1, z0, n0, s'.2.1, s'.2.2)
abbrev W_J25_size (E : gE) (z0 n0 : Nat) (r : Int32) (s' : gS) (pc : Nat) (L : List (Nat × gV)) (st : List gV) (s : gS) : Prop := gW E (M_J25_size z0 n0 s') (gQm E (M_J25_size z0 n0 s') (.inl (some (vI r))) s') pc L st s
noncomputable def f_J25_size_0 (κ : gK) (F : Nat)  (l0 : Option Nat) (s : gS) : Option (Int32 × gS) :=
  gB1 (gfI s l0 13 2) fun v1 =>
  some (v1, s)
set_option maxHeartbeats 4000000 in
theorem w_J25_size_0 {E : gE} {F z0 n0 : Nat} {r : Int32} {s' : gS}   : ∀ (l0 : Option Nat)  (s : gS), f_J25_size_0 (gk E) F  l0 s = some (r, s') → W_J25_size E z0 n0 r s' 0 [(0, vR l0)] [] s := by
  intro l0 s hB
  unfold f_J25_size_0 at hB
  refine gw_aload_n 0 rfl dJ25_size_0 ?_
  obtain ⟨v1, hv1, hB⟩ := gB1_some hB
  refine gw_getf (C := RJ25) (T := TJ25) (N := 3) (k := 2) gcl13 (by decide) in_J25 q1260 (gfI_spec hv1) dJ25_size_1 ?_
  obtain ⟨rfl, rfl⟩ := Prod.mk.inj (Option.some.inj hB)
  exact gw_iret rfl rfl rfl dJ25_size_4
noncomputable def f_J25_size (κ : gK) (F : Nat) (a0 : Option Nat) (s : gS) : Option (Int32 × gS) := f_J25_size_0 κ F a0 s
theorem m_J25_size {E : gE} {F : Nat} (a0 : Option Nat) (s : gS) (r : Int32) (s' : gS) (h : f_J25_size (gk E) F a0 s = some (r, s')) : gCT E 1 yJ25_size (ws_ yJ25_size cJ25_size 1 (some FieldType.int)) [vR a0] s (.inl (some (vI r))) s' := by
  refine gCT_of2 (fun h => absurd h (by decide)) (plainFor_of_name (by decide)) (Nat.le_of_ble_eq_true rfl) ?_
  exact gw_sub [0] rfl (w_J25_size_0 _ _ h)
def dkwJ16_checkIndex_0 : List UInt8 := [26, 155, 0, 8, 26, 27, 161, 0, 10, 44, 26, 27, 184, 0, 95, 191, 26, 172]
abbrev dktJ16_checkIndex_0 : List UInt8 := dkwJ16_checkIndex_0 ++ []
theorem dksJ16_checkIndex_0 : cJ16_checkIndex.data.toList.drop 0 = dktJ16_checkIndex_0 := by decide +kernel
theorem dJ16_checkIndex_0 : decode cJ16_checkIndex 0 = .ok (.iload_n 0, 1) := dk_26 (dk_at dksJ16_checkIndex_0 0 rfl rfl)
theorem dJ16_checkIndex_1 : decode cJ16_checkIndex 1 = .ok (.ifCond .lt 8, 3) := dk_155 0 8 (dk_at dksJ16_checkIndex_0 1 rfl rfl)
theorem dJ16_checkIndex_4 : decode cJ16_checkIndex 4 = .ok (.iload_n 0, 1) := dk_26 (dk_at dksJ16_checkIndex_0 4 rfl rfl)
theorem dJ16_checkIndex_5 : decode cJ16_checkIndex 5 = .ok (.iload_n 1, 1) := dk_27 (dk_at dksJ16_checkIndex_0 5 rfl rfl)
theorem dJ16_checkIndex_6 : decode cJ16_checkIndex 6 = .ok (.if_icmp .lt 10, 3) := dk_161 0 10 (dk_at dksJ16_checkIndex_0 6 rfl rfl)
theorem dJ16_checkIndex_9 : decode cJ16_checkIndex 9 = .ok (.aload_n 2, 1) := dk_44 (dk_at dksJ16_checkIndex_0 9 rfl rfl)
theorem dJ16_checkIndex_10 : decode cJ16_checkIndex 10 = .ok (.iload_n 0, 1) := dk_26 (dk_at dksJ16_checkIndex_0 10 rfl rfl)
theorem dJ16_checkIndex_11 : decode cJ16_checkIndex 11 = .ok (.iload_n 1, 1) := dk_27 (dk_at dksJ16_checkIndex_0 11 rfl rfl)
theorem dJ16_checkIndex_12 : decode cJ16_checkIndex 12 = .ok (.invokestatic 95, 3) := dk_184 0 95 (dk_at dksJ16_checkIndex_0 12 rfl rfl)
theorem dJ16_checkIndex_15 : decode cJ16_checkIndex 15 = .ok (.athrow, 1) := dk_191 (dk_at dksJ16_checkIndex_0 15 rfl rfl)
theorem dJ16_checkIndex_16 : decode cJ16_checkIndex 16 = .ok (.iload_n 0, 1) := dk_26 (dk_at dksJ16_checkIndex_0 16 rfl rfl)
theorem dJ16_checkIndex_17 : decode cJ16_checkIndex 17 = .ok (.ireturn, 1) := dk_172 (dk_at dksJ16_checkIndex_0 17 rfl rfl)
/-! jdk/internal/util/Preconditions.checkIndex(IILjava/util/function/BiFunction;)I -/
abbrev M_J16_checkIndex (z0 n0 : Nat) (s' : gS) : gM := (RJ16, cJ16_checkIndex, 3, (some FieldType.int), "checkIndex", [], 1, z0, n0, s'.2.1, s'.2.2)
abbrev W_J16_checkIndex (E : gE) (z0 n0 : Nat) (r : Int32) (s' : gS) (pc : Nat) (L : List (Nat × gV)) (st : List gV) (s : gS) : Prop := gW E (M_J16_checkIndex z0 n0 s') (gQm E (M_J16_checkIndex z0 n0 s') (.inl (some (vI r))) s') pc L st s
noncomputable def f_J16_checkIndex_9 (κ : gK) (F : Nat)  (l0 : Int32) (l1 : Int32) (l2 : Option Nat) (s : gS) : Option (Int32 × gS) :=
  none
set_option maxHeartbeats 4000000 in
theorem w_J16_checkIndex_9 {E : gE} {F z0 n0 : Nat} {r : Int32} {s' : gS}   : ∀ (l0 : Int32) (l1 : Int32) (l2 : Option Nat)  (s : gS), f_J16_checkIndex_9 (gk E) F  l0 l1 l2 s = some (r, s') → W_J16_checkIndex E z0 n0 r s' 9 [(0, vI l0), (1, vI l1), (2, vR l2)] [] s := by
  intro l0 l1 l2 s hB
  unfold f_J16_checkIndex_9 at hB
  refine gw_aload_n 2 rfl dJ16_checkIndex_9 ?_
  refine gw_iload_n 0 rfl dJ16_checkIndex_10 ?_
  refine gw_iload_n 1 rfl dJ16_checkIndex_11 ?_
  cases hB
noncomputable def f_J16_checkIndex_0 (κ : gK) (F : Nat)  (l0 : Int32) (l1 : Int32) (l2 : Option Nat) (s : gS) : Option (Int32 × gS) :=
  if l0 < 0 then
    f_J16_checkIndex_9 κ F  l0 l1 l2 s
  else
    if l0 < l1 then
      some (l0, s)
    else
      f_J16_checkIndex_9 κ F  l0 l1 l2 s
set_option maxHeartbeats 4000000 in
theorem w_J16_checkIndex_0 {E : gE} {F z0 n0 : Nat} {r : Int32} {s' : gS}   : ∀ (l0 : Int32) (l1 : Int32) (l2 : Option Nat)  (s : gS), f_J16_checkIndex_0 (gk E) F  l0 l1 l2 s = some (r, s') → W_J16_checkIndex E z0 n0 r s' 0 [(0, vI l0), (1, vI l1), (2, vR l2)] [] s := by
  intro l0 l1 l2 s hB
  unfold f_J16_checkIndex_0 at hB
  refine gw_iload_n 0 rfl dJ16_checkIndex_0 ?_
  refine gw_if_lt (tgt := 9) dJ16_checkIndex_1 (by decide) (fun hcnd => ?_) (fun hcnd => ?_)
  · rw [if_pos hcnd] at hB
    exact gw_sub [0, 1, 2] rfl (w_J16_checkIndex_9  _ _ _ _ hB)
  · rw [if_neg hcnd] at hB
    refine gw_iload_n 0 rfl dJ16_checkIndex_4 ?_
    refine gw_iload_n 1 rfl dJ16_checkIndex_5 ?_
    refine gw_icmp_lt (tgt := 16) dJ16_checkIndex_6 (by decide) (fun hcnd => ?_) (fun hcnd => ?_)
    · rw [if_pos hcnd] at hB
      refine gw_iload_n 0 rfl dJ16_checkIndex_16 ?_
      obtain ⟨rfl, rfl⟩ := Prod.mk.inj (Option.some.inj hB)
      exact gw_iret rfl rfl rfl dJ16_checkIndex_17
    · rw [if_neg hcnd] at hB
      exact gw_sub [0, 1, 2] rfl (w_J16_checkIndex_9  _ _ _ _ hB)
noncomputable def f_J16_checkIndex (κ : gK) (F : Nat) (a1 : Int32) (a2 : Int32) (a3 : Option Nat) (s : gS) : Option (Int32 × gS) := f_J16_checkIndex_0 κ F a1 a2 a3 s
theorem m_J16_checkIndex {E : gE} {F : Nat} (a1 : Int32) (a2 : Int32) (a3 : Option Nat) (s : gS) (r : Int32) (s' : gS) (h : f_J16_checkIndex (gk E) F a1 a2 a3 s = some (r, s')) : gCT E 1 yJ16_checkIndex (ws_ yJ16_checkIndex cJ16_checkIndex 3 (some FieldType.int)) [vI a1, vI a2, vR a3] s (.inl (some (vI r))) s' := by
  refine gCT_of2 (fun h => absurd h (by decide)) (plainFor_of_name (by decide)) (Nat.le_of_ble_eq_true rfl) ?_
  exact gw_sub [0, 1, 2] rfl (w_J16_checkIndex_0 _ _ _ _ h)
def dkwJ39_checkIndex_0 : List UInt8 := [26, 27, 1, 184, 0, 105, 172]
abbrev dktJ39_checkIndex_0 : List UInt8 := dkwJ39_checkIndex_0 ++ []
theorem dksJ39_checkIndex_0 : cJ39_checkIndex.data.toList.drop 0 = dktJ39_checkIndex_0 := by decide +kernel
theorem dJ39_checkIndex_0 : decode cJ39_checkIndex 0 = .ok (.iload_n 0, 1) := dk_26 (dk_at dksJ39_checkIndex_0 0 rfl rfl)
theorem dJ39_checkIndex_1 : decode cJ39_checkIndex 1 = .ok (.iload_n 1, 1) := dk_27 (dk_at dksJ39_checkIndex_0 1 rfl rfl)
theorem dJ39_checkIndex_2 : decode cJ39_checkIndex 2 = .ok (.aconst_null, 1) := dk_1 (dk_at dksJ39_checkIndex_0 2 rfl rfl)
theorem dJ39_checkIndex_3 : decode cJ39_checkIndex 3 = .ok (.invokestatic 105, 3) := dk_184 0 105 (dk_at dksJ39_checkIndex_0 3 rfl rfl)
theorem dJ39_checkIndex_6 : decode cJ39_checkIndex 6 = .ok (.ireturn, 1) := dk_172 (dk_at dksJ39_checkIndex_0 6 rfl rfl)
/-! java/util/Objects.checkIndex(II)I -/
abbrev M_J39_checkIndex (z0 n0 : Nat) (s' : gS) : gM := (RJ39, cJ39_checkIndex, 2, (some FieldType.int), "checkIndex", [], 2, z0, n0, s'.2.1, s'.2.2)
abbrev W_J39_checkIndex (E : gE) (z0 n0 : Nat) (r : Int32) (s' : gS) (pc : Nat) (L : List (Nat × gV)) (st : List gV) (s : gS) : Prop := gW E (M_J39_checkIndex z0 n0 s') (gQm E (M_J39_checkIndex z0 n0 s') (.inl (some (vI r))) s') pc L st s
noncomputable def f_J39_checkIndex_0 (κ : gK) (F : Nat)  (l0 : Int32) (l1 : Int32) (s : gS) : Option (Int32 × gS) :=
  gB2 (f_J16_checkIndex κ F l0 l1 none s) fun v2 s1 =>
  some (v2, s1)
set_option maxHeartbeats 4000000 in
theorem w_J39_checkIndex_0 {E : gE} {F z0 n0 : Nat} {r : Int32} {s' : gS}   : ∀ (l0 : Int32) (l1 : Int32)  (s : gS), f_J39_checkIndex_0 (gk E) F  l0 l1 s = some (r, s') → W_J39_checkIndex E z0 n0 r s' 0 [(0, vI l0), (1, vI l1)] [] s := by
  intro l0 l1 s hB
  unfold f_J39_checkIndex_0 at hB
  refine gw_iload_n 0 rfl dJ39_checkIndex_0 ?_
  refine gw_iload_n 1 rfl dJ39_checkIndex_1 ?_
  refine gw_null dJ39_checkIndex_2 ?_
  obtain ⟨v2, s1, hv2, hB⟩ := gB2_some hB
  refine gw_callS (y := yJ16_checkIndex) (lw_S q2347 q1390 q131 q1391) hdS_J16_checkIndex (As := [vI l0, vI l1, vR none]) (rest := []) (m_J16_checkIndex _ _ _ _ _ _ hv2) (Nat.le_of_ble_eq_true rfl) (Nat.le_of_ble_eq_true rfl) rfl (Nat.le_of_ble_eq_true rfl) dJ39_checkIndex_3 (gCont_i ?_)
  obtain ⟨rfl, rfl⟩ := Prod.mk.inj (Option.some.inj hB)
  exact gw_iret rfl rfl rfl dJ39_checkIndex_6
noncomputable def f_J39_checkIndex (κ : gK) (F : Nat) (a1 : Int32) (a2 : Int32) (s : gS) : Option (Int32 × gS) := f_J39_checkIndex_0 κ F a1 a2 s
theorem m_J39_checkIndex {E : gE} {F : Nat} (a1 : Int32) (a2 : Int32) (s : gS) (r : Int32) (s' : gS) (h : f_J39_checkIndex (gk E) F a1 a2 s = some (r, s')) : gCT E 2 yJ39_checkIndex (ws_ yJ39_checkIndex cJ39_checkIndex 2 (some FieldType.int)) [vI a1, vI a2] s (.inl (some (vI r))) s' := by
  refine gCT_of2 (fun h => absurd h (by decide)) (plainFor_of_name (by decide)) (Nat.le_of_ble_eq_true rfl) ?_
  exact gw_sub [0, 1] rfl (w_J39_checkIndex_0 _ _ _ h)
def dkwJ25_fastRemove_1 : List UInt8 := [4, 96, 43, 28, 29, 28, 100, 184, 0, 112, 43, 42, 29, 90, 181, 0, 48, 1, 83, 177]
abbrev dktJ25_fastRemove_1 : List UInt8 := dkwJ25_fastRemove_1 ++ []
def dkwJ25_fastRemove_0 : List UInt8 := [42, 89, 180, 0, 63, 4, 96, 181, 0, 63, 42, 180, 0, 48, 4, 100, 89, 62, 28, 164, 0, 15, 43, 28]
abbrev dktJ25_fastRemove_0 : List UInt8 := dkwJ25_fastRemove_0 ++ dktJ25_fastRemove_1
theorem dksJ25_fastRemove_0 : cJ25_fastRemove.data.toList.drop 0 = dktJ25_fastRemove_0 := by decide +kernel
theorem dksJ25_fastRemove_1 : cJ25_fastRemove.data.toList.drop 24 = dktJ25_fastRemove_1 := dk_seg dksJ25_fastRemove_0 24 rfl rfl
theorem dJ25_fastRemove_0 : decode cJ25_fastRemove 0 = .ok (.aload_n 0, 1) := dk_42 (dk_at dksJ25_fastRemove_0 0 rfl rfl)
theorem dJ25_fastRemove_1 : decode cJ25_fastRemove 1 = .ok (.dup, 1) := dk_89 (dk_at dksJ25_fastRemove_0 1 rfl rfl)
theorem dJ25_fastRemove_2 : decode cJ25_fastRemove 2 = .ok (.getfield 63, 3) := dk_180 0 63 (dk_at dksJ25_fastRemove_0 2 rfl rfl)
theorem dJ25_fastRemove_5 : decode cJ25_fastRemove 5 = .ok (.iconst 1, 1) := dk_4 (dk_at dksJ25_fastRemove_0 5 rfl rfl)
theorem dJ25_fastRemove_6 : decode cJ25_fastRemove 6 = .ok (.iadd, 1) := dk_96 (dk_at dksJ25_fastRemove_0 6 rfl rfl)
theorem dJ25_fastRemove_7 : decode cJ25_fastRemove 7 = .ok (.putfield 63, 3) := dk_181 0 63 (dk_at dksJ25_fastRemove_0 7 rfl rfl)
theorem dJ25_fastRemove_10 : decode cJ25_fastRemove 10 = .ok (.aload_n 0, 1) := dk_42 (dk_at dksJ25_fastRemove_0 10 rfl rfl)
theorem dJ25_fastRemove_11 : decode cJ25_fastRemove 11 = .ok (.getfield 48, 3) := dk_180 0 48 (dk_at dksJ25_fastRemove_0 11 rfl rfl)
theorem dJ25_fastRemove_14 : decode cJ25_fastRemove 14 = .ok (.iconst 1, 1) := dk_4 (dk_at dksJ25_fastRemove_0 14 rfl rfl)
theorem dJ25_fastRemove_15 : decode cJ25_fastRemove 15 = .ok (.isub, 1) := dk_100 (dk_at dksJ25_fastRemove_0 15 rfl rfl)
theorem dJ25_fastRemove_16 : decode cJ25_fastRemove 16 = .ok (.dup, 1) := dk_89 (dk_at dksJ25_fastRemove_0 16 rfl rfl)
theorem dJ25_fastRemove_17 : decode cJ25_fastRemove 17 = .ok (.istore_n 3, 1) := dk_62 (dk_at dksJ25_fastRemove_0 17 rfl rfl)
theorem dJ25_fastRemove_18 : decode cJ25_fastRemove 18 = .ok (.iload_n 2, 1) := dk_28 (dk_at dksJ25_fastRemove_0 18 rfl rfl)
theorem dJ25_fastRemove_19 : decode cJ25_fastRemove 19 = .ok (.if_icmp .le 15, 3) := dk_164 0 15 (dk_at dksJ25_fastRemove_0 19 rfl rfl)
theorem dJ25_fastRemove_22 : decode cJ25_fastRemove 22 = .ok (.aload_n 1, 1) := dk_43 (dk_at dksJ25_fastRemove_0 22 rfl rfl)
theorem dJ25_fastRemove_23 : decode cJ25_fastRemove 23 = .ok (.iload_n 2, 1) := dk_28 (dk_at dksJ25_fastRemove_0 23 rfl rfl)
theorem dJ25_fastRemove_24 : decode cJ25_fastRemove 24 = .ok (.iconst 1, 1) := dk_4 (dk_at dksJ25_fastRemove_1 0 rfl rfl)
theorem dJ25_fastRemove_25 : decode cJ25_fastRemove 25 = .ok (.iadd, 1) := dk_96 (dk_at dksJ25_fastRemove_1 1 rfl rfl)
theorem dJ25_fastRemove_26 : decode cJ25_fastRemove 26 = .ok (.aload_n 1, 1) := dk_43 (dk_at dksJ25_fastRemove_1 2 rfl rfl)
theorem dJ25_fastRemove_27 : decode cJ25_fastRemove 27 = .ok (.iload_n 2, 1) := dk_28 (dk_at dksJ25_fastRemove_1 3 rfl rfl)
theorem dJ25_fastRemove_28 : decode cJ25_fastRemove 28 = .ok (.iload_n 3, 1) := dk_29 (dk_at dksJ25_fastRemove_1 4 rfl rfl)
theorem dJ25_fastRemove_29 : decode cJ25_fastRemove 29 = .ok (.iload_n 2, 1) := dk_28 (dk_at dksJ25_fastRemove_1 5 rfl rfl)
theorem dJ25_fastRemove_30 : decode cJ25_fastRemove 30 = .ok (.isub, 1) := dk_100 (dk_at dksJ25_fastRemove_1 6 rfl rfl)
theorem dJ25_fastRemove_31 : decode cJ25_fastRemove 31 = .ok (.invokestatic 112, 3) := dk_184 0 112 (dk_at dksJ25_fastRemove_1 7 rfl rfl)
theorem dJ25_fastRemove_34 : decode cJ25_fastRemove 34 = .ok (.aload_n 1, 1) := dk_43 (dk_at dksJ25_fastRemove_1 10 rfl rfl)
theorem dJ25_fastRemove_35 : decode cJ25_fastRemove 35 = .ok (.aload_n 0, 1) := dk_42 (dk_at dksJ25_fastRemove_1 11 rfl rfl)
theorem dJ25_fastRemove_36 : decode cJ25_fastRemove 36 = .ok (.iload_n 3, 1) := dk_29 (dk_at dksJ25_fastRemove_1 12 rfl rfl)
theorem dJ25_fastRemove_37 : decode cJ25_fastRemove 37 = .ok (.dup_x1, 1) := dk_90 (dk_at dksJ25_fastRemove_1 13 rfl rfl)
theorem dJ25_fastRemove_38 : decode cJ25_fastRemove 38 = .ok (.putfield 48, 3) := dk_181 0 48 (dk_at dksJ25_fastRemove_1 14 rfl rfl)
theorem dJ25_fastRemove_41 : decode cJ25_fastRemove 41 = .ok (.aconst_null, 1) := dk_1 (dk_at dksJ25_fastRemove_1 17 rfl rfl)
theorem dJ25_fastRemove_42 : decode cJ25_fastRemove 42 = .ok (.aastore, 1) := dk_83 (dk_at dksJ25_fastRemove_1 18 rfl rfl)
theorem dJ25_fastRemove_43 : decode cJ25_fastRemove 43 = .ok (.return_, 1) := dk_177 (dk_at dksJ25_fastRemove_1 19 rfl rfl)
/-! java/util/ArrayList.fastRemove([Ljava/lang/Object;I)V -/
abbrev M_J25_fastRemove (z0 n0 : Nat) (s' : gS) : gM := (RJ25, cJ25_fastRemove, 4, none, "fastRemove", [], 1, z0, n0, s'.2.1, s'.2.2)
abbrev W_J25_fastRemove (E : gE) (z0 n0 : Nat) (r : Unit) (s' : gS) (pc : Nat) (L : List (Nat × gV)) (st : List gV) (s : gS) : Prop := gW E (M_J25_fastRemove z0 n0 s') (gQm E (M_J25_fastRemove z0 n0 s') (.inl none) s') pc L st s
noncomputable def f_J25_fastRemove_34 (κ : gK) (F : Nat)  (l0 : Option Nat) (l1 : Option Nat) (l3 : Int32) (s : gS) : Option (Unit × gS) :=
  gB1 (gpf κ s l0 13 2 (.int l3)) fun s1 =>
  gB1 (gsR κ s1 l1 l3 none) fun s2 =>
  some ((), s2)
set_option maxHeartbeats 4000000 in
theorem w_J25_fastRemove_34 {E : gE} {F z0 n0 : Nat} {r : Unit} {s' : gS}   : ∀ (l0 : Option Nat) (l1 : Option Nat) (l3 : Int32)  (s : gS), f_J25_fastRemove_34 (gk E) F  l0 l1 l3 s = some (r, s') → W_J25_fastRemove E z0 n0 r s' 34 [(0, vR l0), (1, vR l1), (3, vI l3)] [] s := by
  intro l0 l1 l3 s hB
  unfold f_J25_fastRemove_34 at hB
  refine gw_aload_n 1 rfl dJ25_fastRemove_34 ?_
  refine gw_aload_n 0 rfl dJ25_fastRemove_35 ?_
  refine gw_iload_n 2 rfl dJ25_fastRemove_36 ?_
  refine gw_dup_x1 rfl rfl dJ25_fastRemove_37 ?_
  obtain ⟨s1, hs1, hB⟩ := gB1_some hB
  refine gw_putf (C := RJ25) (T := TJ25) (N := 3) (k := 2) tyJ25 tyJ25_ok nmJ25 gcl13 (by decide) in_J25 q1260 rfl (tyJ25_ok 2 (by decide)) (gNF_i _) hs1 dJ25_fastRemove_38 ?_
  refine gw_null dJ25_fastRemove_41 ?_
  obtain ⟨s2, hs2, hB⟩ := gB1_some hB
  refine gw_aastore hs2 dJ25_fastRemove_42 ?_
  obtain ⟨rfl, rfl⟩ := Prod.mk.inj (Option.some.inj hB)
  exact gw_vret rfl rfl rfl dJ25_fastRemove_43
noncomputable def f_J25_fastRemove_0 (κ : gK) (F : Nat)  (l0 : Option Nat) (l1 : Option Nat) (l2 : Int32) (s : gS) : Option (Unit × gS) :=
  gB1 (gfI s l0 13 0) fun v1 =>
  gB1 (gpf κ s l0 13 0 (.int (v1 + (1 : Int32)))) fun s2 =>
  gB1 (gfI s2 l0 13 2) fun v3 =>
  if (v3 - (1 : Int32)) ≤ l2 then
    f_J25_fastRemove_34 κ F  l0 l1 (v3 - (1 : Int32)) s2
  else
    gB1 (gcpR κ s2 l1 (l2 + (1 : Int32)) l1 l2 ((v3 - (1 : Int32)) - l2)) fun s4 =>
    f_J25_fastRemove_34 κ F  l0 l1 (v3 - (1 : Int32)) s4
set_option maxHeartbeats 4000000 in
theorem w_J25_fastRemove_0 {E : gE} {F z0 n0 : Nat} {r : Unit} {s' : gS}   : ∀ (l0 : Option Nat) (l1 : Option Nat) (l2 : Int32)  (s : gS), f_J25_fastRemove_0 (gk E) F  l0 l1 l2 s = some (r, s') → W_J25_fastRemove E z0 n0 r s' 0 [(0, vR l0), (1, vR l1), (2, vI l2)] [] s := by
  intro l0 l1 l2 s hB
  unfold f_J25_fastRemove_0 at hB
  refine gw_aload_n 0 rfl dJ25_fastRemove_0 ?_
  refine gw_dup rfl dJ25_fastRemove_1 ?_
  obtain ⟨v1, hv1, hB⟩ := gB1_some hB
  refine gw_getfS (C := RJ25) (T := TJ25) (N := 3) (k := 0) gcl13 (by decide) in_J25 q1262 q1263 (gfI_spec hv1) dJ25_fastRemove_2 ?_
  refine gw_iconst (v := (1 : Int32)) (by decide) dJ25_fastRemove_5 ?_
  refine gw_iadd dJ25_fastRemove_6 ?_
  obtain ⟨s2, hs2, hB⟩ := gB1_some hB
  refine gw_putfS (C := RJ25) (T := TJ25) (N := 3) (k := 0) tyJ25 tyJ25_ok nmJ25 gcl13 (by decide) in_J25 q1262 q1263 rfl (tyJ25_ok 0 (by decide)) (gNF_i _) hs2 dJ25_fastRemove_7 ?_
  refine gw_aload_n 0 rfl dJ25_fastRemove_10 ?_
  obtain ⟨v3, hv3, hB⟩ := gB1_some hB
  refine gw_getf (C := RJ25) (T := TJ25) (N := 3) (k := 2) gcl13 (by decide) in_J25 q1260 (gfI_spec hv3) dJ25_fastRemove_11 ?_
  refine gw_iconst (v := (1 : Int32)) (by decide) dJ25_fastRemove_14 ?_
  refine gw_isub dJ25_fastRemove_15 ?_
  refine gw_dup rfl dJ25_fastRemove_16 ?_
  refine gw_istore_n (L' := [(3, vI (v3 - (1 : Int32))), (0, vR l0), (1, vR l1), (2, vI l2)]) (Nat.le_of_ble_eq_true rfl) rfl dJ25_fastRemove_17 ?_
  refine gw_iload_n 3 rfl dJ25_fastRemove_18 ?_
  refine gw_icmp_le (tgt := 34) dJ25_fastRemove_19 (by decide) (fun hcnd => ?_) (fun hcnd => ?_)
  · rw [if_pos hcnd] at hB
    exact gw_sub [1, 2, 0] rfl (w_J25_fastRemove_34  _ _ _ _ hB)
  · rw [if_neg hcnd] at hB
    refine gw_aload_n 2 rfl dJ25_fastRemove_22 ?_
    refine gw_iload_n 3 rfl dJ25_fastRemove_23 ?_
    refine gw_iconst (v := (1 : Int32)) (by decide) dJ25_fastRemove_24 ?_
    refine gw_iadd dJ25_fastRemove_25 ?_
    refine gw_aload_n 2 rfl dJ25_fastRemove_26 ?_
    refine gw_iload_n 3 rfl dJ25_fastRemove_27 ?_
    refine gw_iload_n 0 rfl dJ25_fastRemove_28 ?_
    refine gw_iload_n 3 rfl dJ25_fastRemove_29 ?_
    refine gw_isub dJ25_fastRemove_30 ?_
    obtain ⟨s4, hs4, hB⟩ := gB1_some hB
    refine gw_copyR q2352 q562 q561 q118 (Nat.le_of_ble_eq_true rfl) (Nat.le_of_ble_eq_true rfl) hs4 dJ25_fastRemove_31 ?_
    exact gw_sub [1, 2, 0] rfl (w_J25_fastRemove_34  _ _ _ _ hB)
noncomputable def f_J25_fastRemove (κ : gK) (F : Nat) (a0 : Option Nat) (a1 : Option Nat) (a2 : Int32) (s : gS) : Option (Unit × gS) := f_J25_fastRemove_0 κ F a0 a1 a2 s
theorem m_J25_fastRemove {E : gE} {F : Nat} (a0 : Option Nat) (a1 : Option Nat) (a2 : Int32) (s : gS) (r : Unit) (s' : gS) (h : f_J25_fastRemove (gk E) F a0 a1 a2 s = some (r, s')) : gCT E 1 yJ25_fastRemove (ws_ yJ25_fastRemove cJ25_fastRemove 4 none) [vR a0, vR a1, vI a2] s (.inl none) s' := by
  refine gCT_of2 (fun h => absurd h (by decide)) (plainFor_of_name (by decide)) (Nat.le_of_ble_eq_true rfl) ?_
  exact gw_sub [0, 1, 2] rfl (w_J25_fastRemove_0 _ _ _ _ h)
def dkwJ25_remove_1 : List UInt8 := [45, 176]
abbrev dktJ25_remove_1 : List UInt8 := dkwJ25_remove_1 ++ []
def dkwJ25_remove_0 : List UInt8 := [27, 42, 180, 0, 48, 184, 0, 118, 87, 42, 180, 0, 9, 77, 44, 27, 50, 78, 42, 44, 27, 182, 0, 144]
abbrev dktJ25_remove_0 : List UInt8 := dkwJ25_remove_0 ++ dktJ25_remove_1
theorem dksJ25_remove_0 : cJ25_remove.data.toList.drop 0 = dktJ25_remove_0 := by decide +kernel
theorem dksJ25_remove_1 : cJ25_remove.data.toList.drop 24 = dktJ25_remove_1 := dk_seg dksJ25_remove_0 24 rfl rfl
theorem dJ25_remove_0 : decode cJ25_remove 0 = .ok (.iload_n 1, 1) := dk_27 (dk_at dksJ25_remove_0 0 rfl rfl)
theorem dJ25_remove_1 : decode cJ25_remove 1 = .ok (.aload_n 0, 1) := dk_42 (dk_at dksJ25_remove_0 1 rfl rfl)
theorem dJ25_remove_2 : decode cJ25_remove 2 = .ok (.getfield 48, 3) := dk_180 0 48 (dk_at dksJ25_remove_0 2 rfl rfl)
theorem dJ25_remove_5 : decode cJ25_remove 5 = .ok (.invokestatic 118, 3) := dk_184 0 118 (dk_at dksJ25_remove_0 5 rfl rfl)
theorem dJ25_remove_8 : decode cJ25_remove 8 = .ok (.pop, 1) := dk_87 (dk_at dksJ25_remove_0 8 rfl rfl)
theorem dJ25_remove_9 : decode cJ25_remove 9 = .ok (.aload_n 0, 1) := dk_42 (dk_at dksJ25_remove_0 9 rfl rfl)
theorem dJ25_remove_10 : decode cJ25_remove 10 = .ok (.getfield 9, 3) := dk_180 0 9 (dk_at dksJ25_remove_0 10 rfl rfl)
theorem dJ25_remove_13 : decode cJ25_remove 13 = .ok (.astore_n 2, 1) := dk_77 (dk_at dksJ25_remove_0 13 rfl rfl)
theorem dJ25_remove_14 : decode cJ25_remove 14 = .ok (.aload_n 2, 1) := dk_44 (dk_at dksJ25_remove_0 14 rfl rfl)
theorem dJ25_remove_15 : decode cJ25_remove 15 = .ok (.iload_n 1, 1) := dk_27 (dk_at dksJ25_remove_0 15 rfl rfl)
theorem dJ25_remove_16 : decode cJ25_remove 16 = .ok (.aaload, 1) := dk_50 (dk_at dksJ25_remove_0 16 rfl rfl)
theorem dJ25_remove_17 : decode cJ25_remove 17 = .ok (.astore_n 3, 1) := dk_78 (dk_at dksJ25_remove_0 17 rfl rfl)
theorem dJ25_remove_18 : decode cJ25_remove 18 = .ok (.aload_n 0, 1) := dk_42 (dk_at dksJ25_remove_0 18 rfl rfl)
theorem dJ25_remove_19 : decode cJ25_remove 19 = .ok (.aload_n 2, 1) := dk_44 (dk_at dksJ25_remove_0 19 rfl rfl)
theorem dJ25_remove_20 : decode cJ25_remove 20 = .ok (.iload_n 1, 1) := dk_27 (dk_at dksJ25_remove_0 20 rfl rfl)
theorem dJ25_remove_21 : decode cJ25_remove 21 = .ok (.invokevirtual 144, 3) := dk_182 0 144 (dk_at dksJ25_remove_0 21 rfl rfl)
theorem dJ25_remove_24 : decode cJ25_remove 24 = .ok (.aload_n 3, 1) := dk_45 (dk_at dksJ25_remove_1 0 rfl rfl)
theorem dJ25_remove_25 : decode cJ25_remove 25 = .ok (.areturn, 1) := dk_176 (dk_at dksJ25_remove_1 1 rfl rfl)
/-! java/util/ArrayList.remove(I)Ljava/lang/Object; -/
abbrev M_J25_remove (z0 n0 : Nat) (s' : gS) : gM := (RJ25, cJ25_remove, 4, (some (FieldType.object "java/lang/Object")), "remove", [], 3, z0, n0, s'.2.1, s'.2.2)
abbrev W_J25_remove (E : gE) (z0 n0 : Nat) (r : (Option Nat)) (s' : gS) (pc : Nat) (L : List (Nat × gV)) (st : List gV) (s : gS) : Prop := gW E (M_J25_remove z0 n0 s') (gQm E (M_J25_remove z0 n0 s') (.inl (some (vR r))) s') pc L st s
noncomputable def f_J25_remove_0 (κ : gK) (F : Nat)  (l0 : Option Nat) (l1 : Int32) (s : gS) : Option ((Option Nat) × gS) :=
  gB1 (gfI s l0 13 2) fun v1 =>
  gB2 (f_J39_checkIndex κ F l1 v1 s) fun v3 s2 =>
  gB1 (gfR s2 l0 13 1) fun v4 =>
  gB1 (gaR s2 v4 l1) fun v5 =>
  gB1 (gck s2 l0 13) fun _ =>
  gB2 (f_J25_fastRemove κ F l0 v4 l1 s2) fun v7 s6 =>
  some (v5, s6)
set_option maxHeartbeats 4000000 in
theorem w_J25_remove_0 {E : gE} {F z0 n0 : Nat} {r : (Option Nat)} {s' : gS}   : ∀ (l0 : Option Nat) (l1 : Int32)  (s : gS), f_J25_remove_0 (gk E) F  l0 l1 s = some (r, s') → W_J25_remove E z0 n0 r s' 0 [(0, vR l0), (1, vI l1)] [] s := by
  intro l0 l1 s hB
  unfold f_J25_remove_0 at hB
  refine gw_iload_n 1 rfl dJ25_remove_0 ?_
  refine gw_aload_n 0 rfl dJ25_remove_1 ?_
  obtain ⟨v1, hv1, hB⟩ := gB1_some hB
  refine gw_getf (C := RJ25) (T := TJ25) (N := 3) (k := 2) gcl13 (by decide) in_J25 q1260 (gfI_spec hv1) dJ25_remove_2 ?_
  obtain ⟨v3, s2, hv3, hB⟩ := gB2_some hB
  refine gw_callS (y := yJ39_checkIndex) (lw_S q2344 q2345 q158 q2346) hdS_J39_checkIndex (As := [vI l1, vI v1]) (rest := []) (m_J39_checkIndex _ _ _ _ _ hv3) (Nat.le_of_ble_eq_true rfl) (Nat.le_of_ble_eq_true rfl) rfl (Nat.le_of_ble_eq_true rfl) dJ25_remove_5 (gCont_i ?_)
  refine gw_pop rfl dJ25_remove_8 ?_
  refine gw_aload_n 0 rfl dJ25_remove_9 ?_
  obtain ⟨v4, hv4, hB⟩ := gB1_some hB
  refine gw_getf (C := RJ25) (T := TJ25) (N := 3) (k := 1) gcl13 (by decide) in_J25 q1259 (gfR_spec hv4) dJ25_remove_10 ?_
  refine gw_astore_n (L' := [(2, vR v4), (0, vR l0), (1, vI l1)]) (Nat.le_of_ble_eq_true rfl) rfl dJ25_remove_13 ?_
  refine gw_aload_n 0 rfl dJ25_remove_14 ?_
  refine gw_iload_n 2 rfl dJ25_remove_15 ?_
  obtain ⟨v5, hv5, hB⟩ := gB1_some hB
  refine gw_aaload hv5 dJ25_remove_16 ?_
  refine gw_astore_n (L' := [(3, vR v5), (2, vR v4), (0, vR l0), (1, vI l1)]) (Nat.le_of_ble_eq_true rfl) rfl dJ25_remove_17 ?_
  refine gw_aload_n 2 rfl dJ25_remove_18 ?_
  refine gw_aload_n 1 rfl dJ25_remove_19 ?_
  refine gw_iload_n 3 rfl dJ25_remove_20 ?_
  obtain ⟨u0, hu8, hB⟩ := gB1_some hB
  obtain ⟨v7, s6, hv7, hB⟩ := gB2_some hB
  refine gw_callV (y := yJ25_fastRemove) (lw_V q2348 q2350 qs37 q142 q2351) hdV_J25_fastRemove gcl13 hu8 (As := [vR v4, vI l1]) (rest := []) (m_J25_fastRemove _ _ _ _ _ _ hv7) (Nat.le_of_ble_eq_true rfl) (Nat.le_of_ble_eq_true rfl) rfl (Nat.le_of_ble_eq_true rfl) dJ25_remove_21 (gCont_v ?_)
  refine gw_aload_n 0 rfl dJ25_remove_24 ?_
  obtain ⟨rfl, rfl⟩ := Prod.mk.inj (Option.some.inj hB)
  exact gw_aret rfl (Or.inl ⟨_, rfl⟩) rfl rfl dJ25_remove_25
noncomputable def f_J25_remove (κ : gK) (F : Nat) (a0 : Option Nat) (a1 : Int32) (s : gS) : Option ((Option Nat) × gS) := f_J25_remove_0 κ F a0 a1 s
theorem m_J25_remove {E : gE} {F : Nat} (a0 : Option Nat) (a1 : Int32) (s : gS) (r : (Option Nat)) (s' : gS) (h : f_J25_remove (gk E) F a0 a1 s = some (r, s')) : gCT E 3 yJ25_remove (ws_ yJ25_remove cJ25_remove 4 (some (FieldType.object "java/lang/Object"))) [vR a0, vI a1] s (.inl (some (vR r))) s' := by
  refine gCT_of2 (fun h => absurd h (by decide)) (plainFor_of_name (by decide)) (Nat.le_of_ble_eq_true rfl) ?_
  exact gw_sub [0, 1] rfl (w_J25_remove_0 _ _ _ h)
def dkwJ25_grow_2_2 : List UInt8 := [27, 184, 0, 79, 189, 0, 7, 90, 181, 0, 9, 176]
abbrev dktJ25_grow_2_2 : List UInt8 := dkwJ25_grow_2_2 ++ []
def dkwJ25_grow_2_1 : List UInt8 := [28, 4, 122, 184, 0, 73, 62, 42, 42, 180, 0, 9, 29, 184, 0, 66, 90, 181, 0, 9, 176, 42, 16, 10]
abbrev dktJ25_grow_2_1 : List UInt8 := dkwJ25_grow_2_1 ++ dktJ25_grow_2_2
def dkwJ25_grow_2_0 : List UInt8 := [42, 180, 0, 9, 190, 61, 28, 157, 0, 13, 42, 180, 0, 9, 178, 0, 39, 165, 0, 28, 28, 27, 28, 100]
abbrev dktJ25_grow_2_0 : List UInt8 := dkwJ25_grow_2_0 ++ dktJ25_grow_2_1
theorem dksJ25_grow_2_0 : cJ25_grow_2.data.toList.drop 0 = dktJ25_grow_2_0 := by decide +kernel
theorem dksJ25_grow_2_1 : cJ25_grow_2.data.toList.drop 24 = dktJ25_grow_2_1 := dk_seg dksJ25_grow_2_0 24 rfl rfl
theorem dksJ25_grow_2_2 : cJ25_grow_2.data.toList.drop 48 = dktJ25_grow_2_2 := dk_seg dksJ25_grow_2_1 24 rfl rfl
theorem dJ25_grow_2_0 : decode cJ25_grow_2 0 = .ok (.aload_n 0, 1) := dk_42 (dk_at dksJ25_grow_2_0 0 rfl rfl)
theorem dJ25_grow_2_1 : decode cJ25_grow_2 1 = .ok (.getfield 9, 3) := dk_180 0 9 (dk_at dksJ25_grow_2_0 1 rfl rfl)
theorem dJ25_grow_2_4 : decode cJ25_grow_2 4 = .ok (.arraylength, 1) := dk_190 (dk_at dksJ25_grow_2_0 4 rfl rfl)
theorem dJ25_grow_2_5 : decode cJ25_grow_2 5 = .ok (.istore_n 2, 1) := dk_61 (dk_at dksJ25_grow_2_0 5 rfl rfl)
theorem dJ25_grow_2_6 : decode cJ25_grow_2 6 = .ok (.iload_n 2, 1) := dk_28 (dk_at dksJ25_grow_2_0 6 rfl rfl)
theorem dJ25_grow_2_7 : decode cJ25_grow_2 7 = .ok (.ifCond .gt 13, 3) := dk_157 0 13 (dk_at dksJ25_grow_2_0 7 rfl rfl)
theorem dJ25_grow_2_10 : decode cJ25_grow_2 10 = .ok (.aload_n 0, 1) := dk_42 (dk_at dksJ25_grow_2_0 10 rfl rfl)
theorem dJ25_grow_2_11 : decode cJ25_grow_2 11 = .ok (.getfield 9, 3) := dk_180 0 9 (dk_at dksJ25_grow_2_0 11 rfl rfl)
theorem dJ25_grow_2_14 : decode cJ25_grow_2 14 = .ok (.getstatic 39, 3) := dk_178 0 39 (dk_at dksJ25_grow_2_0 14 rfl rfl)
theorem dJ25_grow_2_17 : decode cJ25_grow_2 17 = .ok (.if_acmp .eq 28, 3) := dk_165 0 28 (dk_at dksJ25_grow_2_0 17 rfl rfl)
theorem dJ25_grow_2_20 : decode cJ25_grow_2 20 = .ok (.iload_n 2, 1) := dk_28 (dk_at dksJ25_grow_2_0 20 rfl rfl)
theorem dJ25_grow_2_21 : decode cJ25_grow_2 21 = .ok (.iload_n 1, 1) := dk_27 (dk_at dksJ25_grow_2_0 21 rfl rfl)
theorem dJ25_grow_2_22 : decode cJ25_grow_2 22 = .ok (.iload_n 2, 1) := dk_28 (dk_at dksJ25_grow_2_0 22 rfl rfl)
theorem dJ25_grow_2_23 : decode cJ25_grow_2 23 = .ok (.isub, 1) := dk_100 (dk_at dksJ25_grow_2_0 23 rfl rfl)
theorem dJ25_grow_2_24 : decode cJ25_grow_2 24 = .ok (.iload_n 2, 1) := dk_28 (dk_at dksJ25_grow_2_1 0 rfl rfl)
theorem dJ25_grow_2_25 : decode cJ25_grow_2 25 = .ok (.iconst 1, 1) := dk_4 (dk_at dksJ25_grow_2_1 1 rfl rfl)
theorem dJ25_grow_2_26 : decode cJ25_grow_2 26 = .ok (.ishr, 1) := dk_122 (dk_at dksJ25_grow_2_1 2 rfl rfl)
theorem dJ25_grow_2_27 : decode cJ25_grow_2 27 = .ok (.invokestatic 73, 3) := dk_184 0 73 (dk_at dksJ25_grow_2_1 3 rfl rfl)
theorem dJ25_grow_2_30 : decode cJ25_grow_2 30 = .ok (.istore_n 3, 1) := dk_62 (dk_at dksJ25_grow_2_1 6 rfl rfl)
theorem dJ25_grow_2_31 : decode cJ25_grow_2 31 = .ok (.aload_n 0, 1) := dk_42 (dk_at dksJ25_grow_2_1 7 rfl rfl)
theorem dJ25_grow_2_32 : decode cJ25_grow_2 32 = .ok (.aload_n 0, 1) := dk_42 (dk_at dksJ25_grow_2_1 8 rfl rfl)
theorem dJ25_grow_2_33 : decode cJ25_grow_2 33 = .ok (.getfield 9, 3) := dk_180 0 9 (dk_at dksJ25_grow_2_1 9 rfl rfl)
theorem dJ25_grow_2_36 : decode cJ25_grow_2 36 = .ok (.iload_n 3, 1) := dk_29 (dk_at dksJ25_grow_2_1 12 rfl rfl)
theorem dJ25_grow_2_37 : decode cJ25_grow_2 37 = .ok (.invokestatic 66, 3) := dk_184 0 66 (dk_at dksJ25_grow_2_1 13 rfl rfl)
theorem dJ25_grow_2_40 : decode cJ25_grow_2 40 = .ok (.dup_x1, 1) := dk_90 (dk_at dksJ25_grow_2_1 16 rfl rfl)
theorem dJ25_grow_2_41 : decode cJ25_grow_2 41 = .ok (.putfield 9, 3) := dk_181 0 9 (dk_at dksJ25_grow_2_1 17 rfl rfl)
theorem dJ25_grow_2_44 : decode cJ25_grow_2 44 = .ok (.areturn, 1) := dk_176 (dk_at dksJ25_grow_2_1 20 rfl rfl)
theorem dJ25_grow_2_45 : decode cJ25_grow_2 45 = .ok (.aload_n 0, 1) := dk_42 (dk_at dksJ25_grow_2_1 21 rfl rfl)
theorem dJ25_grow_2_46 : decode cJ25_grow_2 46 = .ok (.bipush 10, 2) := dk_16 10 (dk_at dksJ25_grow_2_1 22 rfl rfl)
theorem dJ25_grow_2_48 : decode cJ25_grow_2 48 = .ok (.iload_n 1, 1) := dk_27 (dk_at dksJ25_grow_2_2 0 rfl rfl)
theorem dJ25_grow_2_49 : decode cJ25_grow_2 49 = .ok (.invokestatic 79, 3) := dk_184 0 79 (dk_at dksJ25_grow_2_2 1 rfl rfl)
theorem dJ25_grow_2_52 : decode cJ25_grow_2 52 = .ok (.anewarray 7, 3) := dk_189 0 7 (dk_at dksJ25_grow_2_2 4 rfl rfl)
theorem dJ25_grow_2_55 : decode cJ25_grow_2 55 = .ok (.dup_x1, 1) := dk_90 (dk_at dksJ25_grow_2_2 7 rfl rfl)
theorem dJ25_grow_2_56 : decode cJ25_grow_2 56 = .ok (.putfield 9, 3) := dk_181 0 9 (dk_at dksJ25_grow_2_2 8 rfl rfl)
theorem dJ25_grow_2_59 : decode cJ25_grow_2 59 = .ok (.areturn, 1) := dk_176 (dk_at dksJ25_grow_2_2 11 rfl rfl)
/-! java/util/ArrayList.grow(I)[Ljava/lang/Object; -/
abbrev M_J25_grow_2 (z0 n0 : Nat) (s' : gS) : gM := (RJ25, cJ25_grow_2, 4, (some (FieldType.array (FieldType.object "java/lang/Object"))), "grow", [], 2, z0, n0, s'.2.1, s'.2.2)
abbrev W_J25_grow_2 (E : gE) (z0 n0 : Nat) (r : (Option Nat)) (s' : gS) (pc : Nat) (L : List (Nat × gV)) (st : List gV) (s : gS) : Prop := gW E (M_J25_grow_2 z0 n0 s') (gQm E (M_J25_grow_2 z0 n0 s') (.inl (some (vR r))) s') pc L st s
noncomputable def f_J25_grow_2_20 (κ : gK) (F : Nat)  (l0 : Option Nat) (l1 : Int32) (l2 : Int32) (s : gS) : Option ((Option Nat) × gS) :=
  gB2 (f_J6_newLength κ F l2 (l1 - l2) (l2 >>> ((1 : Int32) &&& 31)) s) fun v2 s1 =>
  gB1 (gfR s1 l0 13 1) fun v3 =>
  none
set_option maxHeartbeats 4000000 in
theorem w_J25_grow_2_20 {E : gE} {F z0 n0 : Nat} {r : (Option Nat)} {s' : gS}   : ∀ (l0 : Option Nat) (l1 : Int32) (l2 : Int32)  (s : gS), f_J25_grow_2_20 (gk E) F  l0 l1 l2 s = some (r, s') → W_J25_grow_2 E z0 n0 r s' 20 [(0, vR l0), (1, vI l1), (2, vI l2)] [] s := by
  intro l0 l1 l2 s hB
  unfold f_J25_grow_2_20 at hB
  refine gw_iload_n 2 rfl dJ25_grow_2_20 ?_
  refine gw_iload_n 1 rfl dJ25_grow_2_21 ?_
  refine gw_iload_n 2 rfl dJ25_grow_2_22 ?_
  refine gw_isub dJ25_grow_2_23 ?_
  refine gw_iload_n 2 rfl dJ25_grow_2_24 ?_
  refine gw_iconst (v := (1 : Int32)) (by decide) dJ25_grow_2_25 ?_
  refine gw_ishr dJ25_grow_2_26 ?_
  obtain ⟨v2, s1, hv2, hB⟩ := gB2_some hB
  refine gw_callS (y := yJ6_newLength) (lw_S q2369 q537 q121 q538) hdS_J6_newLength (As := [vI l2, vI (l1 - l2), vI (l2 >>> ((1 : Int32) &&& 31))]) (rest := []) (m_J6_newLength _ _ _ _ _ _ hv2) (Nat.le_of_ble_eq_true rfl) (Nat.le_of_ble_eq_true rfl) rfl (Nat.le_of_ble_eq_true rfl) dJ25_grow_2_27 (gCont_i ?_)
  refine gw_istore_n (L' := [(3, vI v2), (0, vR l0), (1, vI l1), (2, vI l2)]) (Nat.le_of_ble_eq_true rfl) rfl dJ25_grow_2_30 ?_
  refine gw_aload_n 1 rfl dJ25_grow_2_31 ?_
  refine gw_aload_n 1 rfl dJ25_grow_2_32 ?_
  obtain ⟨v3, hv3, hB⟩ := gB1_some hB
  refine gw_getf (C := RJ25) (T := TJ25) (N := 3) (k := 1) gcl13 (by decide) in_J25 q1259 (gfR_spec hv3) dJ25_grow_2_33 ?_
  refine gw_iload_n 0 rfl dJ25_grow_2_36 ?_
  cases hB
noncomputable def f_J25_grow_2_0 (κ : gK) (F : Nat)  (l0 : Option Nat) (l1 : Int32) (s : gS) : Option ((Option Nat) × gS) :=
  gB1 (gfR s l0 13 1) fun v1 =>
  gB1 (gal s v1) fun v2 =>
  if 0 < v2 then
    f_J25_grow_2_20 κ F  l0 l1 v2 s
  else
    gB1 (gfR s l0 13 1) fun v3 =>
    if v3 = (κ.2 4) then
      gB2 (gna s 8 (if (10 : Int32) < l1 then l1 else (10 : Int32))) fun v4 s5 =>
      gB1 (gpf κ s5 l0 13 1 (va_rf v4)) fun s6 =>
      some (v4, s6)
    else
      f_J25_grow_2_20 κ F  l0 l1 v2 s
set_option maxHeartbeats 4000000 in
theorem w_J25_grow_2_0 {E : gE} {F z0 n0 : Nat} {r : (Option Nat)} {s' : gS}   : ∀ (l0 : Option Nat) (l1 : Int32)  (s : gS), f_J25_grow_2_0 (gk E) F  l0 l1 s = some (r, s') → W_J25_grow_2 E z0 n0 r s' 0 [(0, vR l0), (1, vI l1)] [] s := by
  intro l0 l1 s hB
  unfold f_J25_grow_2_0 at hB
  refine gw_aload_n 0 rfl dJ25_grow_2_0 ?_
  obtain ⟨v1, hv1, hB⟩ := gB1_some hB
  refine gw_getf (C := RJ25) (T := TJ25) (N := 3) (k := 1) gcl13 (by decide) in_J25 q1259 (gfR_spec hv1) dJ25_grow_2_1 ?_
  obtain ⟨v2, hv2, hB⟩ := gB1_some hB
  refine gw_alen hv2 dJ25_grow_2_4 ?_
  refine gw_istore_n (L' := [(2, vI v2), (0, vR l0), (1, vI l1)]) (Nat.le_of_ble_eq_true rfl) rfl dJ25_grow_2_5 ?_
  refine gw_iload_n 0 rfl dJ25_grow_2_6 ?_
  refine gw_if_gt (tgt := 20) dJ25_grow_2_7 (by decide) (fun hcnd => ?_) (fun hcnd => ?_)
  · rw [if_pos hcnd] at hB
    exact gw_sub [1, 2, 0] rfl (w_J25_grow_2_20  _ _ _ _ hB)
  · rw [if_neg hcnd] at hB
    refine gw_aload_n 1 rfl dJ25_grow_2_10 ?_
    obtain ⟨v3, hv3, hB⟩ := gB1_some hB
    refine gw_getf (C := RJ25) (T := TJ25) (N := 3) (k := 1) gcl13 (by decide) in_J25 q1259 (gfR_spec hv3) dJ25_grow_2_11 ?_
    refine gw_gets (i := 4) (by decide) q1257 dJ25_grow_2_14 ?_
    refine gw_acmp_eq (tgt := 45) dJ25_grow_2_17 (by decide) (fun hcnd => ?_) (fun hcnd => ?_)
    · rw [if_pos hcnd] at hB
      refine gw_aload_n 1 rfl dJ25_grow_2_45 ?_
      refine gw_bipush (v := (10 : Int32)) (by decide) dJ25_grow_2_46 ?_
      refine gw_iload_n 2 rfl dJ25_grow_2_48 ?_
      refine gw_mmax q2380 q540 q129 q541 (Nat.le_of_ble_eq_true rfl) (Nat.le_of_ble_eq_true rfl) dJ25_grow_2_49 ?_
      obtain ⟨v4, s5, hv4, hB⟩ := gB2_some hB
      refine gw_anewarr (C := "java/lang/Object") (t := 8) (by decide) rfl q2381 q2378 hv4 dJ25_grow_2_52 ?_
      refine gw_dup_x1 rfl rfl dJ25_grow_2_55 ?_
      obtain ⟨s6, hs6, hB⟩ := gB1_some hB
      refine gw_putf (C := RJ25) (T := TJ25) (N := 3) (k := 1) tyJ25 tyJ25_ok nmJ25 gcl13 (by decide) in_J25 q1259 rfl (tyJ25_ok 1 (by decide)) (gNF_a _ _) hs6 dJ25_grow_2_56 ?_
      obtain ⟨rfl, rfl⟩ := Prod.mk.inj (Option.some.inj hB)
      exact gw_aret rfl (Or.inr ⟨_, rfl⟩) rfl rfl dJ25_grow_2_59
    · rw [if_neg hcnd] at hB
      exact gw_sub [1, 2, 0] rfl (w_J25_grow_2_20  _ _ _ _ hB)
noncomputable def f_J25_grow_2 (κ : gK) (F : Nat) (a0 : Option Nat) (a1 : Int32) (s : gS) : Option ((Option Nat) × gS) := f_J25_grow_2_0 κ F a0 a1 s
theorem m_J25_grow_2 {E : gE} {F : Nat} (a0 : Option Nat) (a1 : Int32) (s : gS) (r : (Option Nat)) (s' : gS) (h : f_J25_grow_2 (gk E) F a0 a1 s = some (r, s')) : gCT E 2 yJ25_grow_2 (ws_ yJ25_grow_2 cJ25_grow_2 4 (some (FieldType.array (FieldType.object "java/lang/Object")))) [vR a0, vI a1] s (.inl (some (vR r))) s' := by
  refine gCT_of2 (fun h => absurd h (by decide)) (plainFor_of_name (by decide)) (Nat.le_of_ble_eq_true rfl) ?_
  exact gw_sub [0, 1] rfl (w_J25_grow_2_0 _ _ _ h)
def dkwJ25_grow_0 : List UInt8 := [42, 42, 180, 0, 48, 4, 96, 182, 0, 69, 176]
abbrev dktJ25_grow_0 : List UInt8 := dkwJ25_grow_0 ++ []
theorem dksJ25_grow_0 : cJ25_grow.data.toList.drop 0 = dktJ25_grow_0 := by decide +kernel
theorem dJ25_grow_0 : decode cJ25_grow 0 = .ok (.aload_n 0, 1) := dk_42 (dk_at dksJ25_grow_0 0 rfl rfl)
theorem dJ25_grow_1 : decode cJ25_grow 1 = .ok (.aload_n 0, 1) := dk_42 (dk_at dksJ25_grow_0 1 rfl rfl)
theorem dJ25_grow_2 : decode cJ25_grow 2 = .ok (.getfield 48, 3) := dk_180 0 48 (dk_at dksJ25_grow_0 2 rfl rfl)
theorem dJ25_grow_5 : decode cJ25_grow 5 = .ok (.iconst 1, 1) := dk_4 (dk_at dksJ25_grow_0 5 rfl rfl)
theorem dJ25_grow_6 : decode cJ25_grow 6 = .ok (.iadd, 1) := dk_96 (dk_at dksJ25_grow_0 6 rfl rfl)
theorem dJ25_grow_7 : decode cJ25_grow 7 = .ok (.invokevirtual 69, 3) := dk_182 0 69 (dk_at dksJ25_grow_0 7 rfl rfl)
theorem dJ25_grow_10 : decode cJ25_grow 10 = .ok (.areturn, 1) := dk_176 (dk_at dksJ25_grow_0 10 rfl rfl)
/-! java/util/ArrayList.grow()[Ljava/lang/Object; -/
abbrev M_J25_grow (z0 n0 : Nat) (s' : gS) : gM := (RJ25, cJ25_grow, 1, (some (FieldType.array (FieldType.object "java/lang/Object"))), "grow", [], 3, z0, n0, s'.2.1, s'.2.2)
abbrev W_J25_grow (E : gE) (z0 n0 : Nat) (r : (Option Nat)) (s' : gS) (pc : Nat) (L : List (Nat × gV)) (st : List gV) (s : gS) : Prop := gW E (M_J25_grow z0 n0 s') (gQm E (M_J25_grow z0 n0 s') (.inl (some (vR r))) s') pc L st s
noncomputable def f_J25_grow_0 (κ : gK) (F : Nat)  (l0 : Option Nat) (s : gS) : Option ((Option Nat) × gS) :=
  gB1 (gfI s l0 13 2) fun v1 =>
  gB1 (gck s l0 13) fun _ =>
  gB2 (f_J25_grow_2 κ F l0 (v1 + (1 : Int32)) s) fun v3 s2 =>
  some (v3, s2)
set_option maxHeartbeats 4000000 in
theorem w_J25_grow_0 {E : gE} {F z0 n0 : Nat} {r : (Option Nat)} {s' : gS}   : ∀ (l0 : Option Nat)  (s : gS), f_J25_grow_0 (gk E) F  l0 s = some (r, s') → W_J25_grow E z0 n0 r s' 0 [(0, vR l0)] [] s := by
  intro l0 s hB
  unfold f_J25_grow_0 at hB
  refine gw_aload_n 0 rfl dJ25_grow_0 ?_
  refine gw_aload_n 0 rfl dJ25_grow_1 ?_
  obtain ⟨v1, hv1, hB⟩ := gB1_some hB
  refine gw_getf (C := RJ25) (T := TJ25) (N := 3) (k := 2) gcl13 (by decide) in_J25 q1260 (gfI_spec hv1) dJ25_grow_2 ?_
  refine gw_iconst (v := (1 : Int32)) (by decide) dJ25_grow_5 ?_
  refine gw_iadd dJ25_grow_6 ?_
  obtain ⟨u0, hu4, hB⟩ := gB1_some hB
  obtain ⟨v3, s2, hv3, hB⟩ := gB2_some hB
  refine gw_callV (y := yJ25_grow_2) (lw_V q2365 q2367 qs40 q142 q2368) hdV_J25_grow_2 gcl13 hu4 (As := [vI (v1 + (1 : Int32))]) (rest := []) (m_J25_grow_2 _ _ _ _ _ hv3) (Nat.le_of_ble_eq_true rfl) (Nat.le_of_ble_eq_true rfl) rfl (Nat.le_of_ble_eq_true rfl) dJ25_grow_7 (gCont_i ?_)
  obtain ⟨rfl, rfl⟩ := Prod.mk.inj (Option.some.inj hB)
  exact gw_aret rfl (Or.inr ⟨_, rfl⟩) rfl rfl dJ25_grow_10
noncomputable def f_J25_grow (κ : gK) (F : Nat) (a0 : Option Nat) (s : gS) : Option ((Option Nat) × gS) := f_J25_grow_0 κ F a0 s
theorem m_J25_grow {E : gE} {F : Nat} (a0 : Option Nat) (s : gS) (r : (Option Nat)) (s' : gS) (h : f_J25_grow (gk E) F a0 s = some (r, s')) : gCT E 3 yJ25_grow (ws_ yJ25_grow cJ25_grow 1 (some (FieldType.array (FieldType.object "java/lang/Object")))) [vR a0] s (.inl (some (vR r))) s' := by
  refine gCT_of2 (fun h => absurd h (by decide)) (plainFor_of_name (by decide)) (Nat.le_of_ble_eq_true rfl) ?_
  exact gw_sub [0] rfl (w_J25_grow_0 _ _ h)
def dkwJ25_add_2_0 : List UInt8 := [29, 44, 190, 160, 0, 8, 42, 182, 0, 129, 77, 44, 29, 43, 83, 42, 29, 4, 96, 181, 0, 48, 177]
abbrev dktJ25_add_2_0 : List UInt8 := dkwJ25_add_2_0 ++ []
theorem dksJ25_add_2_0 : cJ25_add_2.data.toList.drop 0 = dktJ25_add_2_0 := by decide +kernel
theorem dJ25_add_2_0 : decode cJ25_add_2 0 = .ok (.iload_n 3, 1) := dk_29 (dk_at dksJ25_add_2_0 0 rfl rfl)
theorem dJ25_add_2_1 : decode cJ25_add_2 1 = .ok (.aload_n 2, 1) := dk_44 (dk_at dksJ25_add_2_0 1 rfl rfl)
theorem dJ25_add_2_2 : decode cJ25_add_2 2 = .ok (.arraylength, 1) := dk_190 (dk_at dksJ25_add_2_0 2 rfl rfl)
theorem dJ25_add_2_3 : decode cJ25_add_2 3 = .ok (.if_icmp .ne 8, 3) := dk_160 0 8 (dk_at dksJ25_add_2_0 3 rfl rfl)
theorem dJ25_add_2_6 : decode cJ25_add_2 6 = .ok (.aload_n 0, 1) := dk_42 (dk_at dksJ25_add_2_0 6 rfl rfl)
theorem dJ25_add_2_7 : decode cJ25_add_2 7 = .ok (.invokevirtual 129, 3) := dk_182 0 129 (dk_at dksJ25_add_2_0 7 rfl rfl)
theorem dJ25_add_2_10 : decode cJ25_add_2 10 = .ok (.astore_n 2, 1) := dk_77 (dk_at dksJ25_add_2_0 10 rfl rfl)
theorem dJ25_add_2_11 : decode cJ25_add_2 11 = .ok (.aload_n 2, 1) := dk_44 (dk_at dksJ25_add_2_0 11 rfl rfl)
theorem dJ25_add_2_12 : decode cJ25_add_2 12 = .ok (.iload_n 3, 1) := dk_29 (dk_at dksJ25_add_2_0 12 rfl rfl)
theorem dJ25_add_2_13 : decode cJ25_add_2 13 = .ok (.aload_n 1, 1) := dk_43 (dk_at dksJ25_add_2_0 13 rfl rfl)
theorem dJ25_add_2_14 : decode cJ25_add_2 14 = .ok (.aastore, 1) := dk_83 (dk_at dksJ25_add_2_0 14 rfl rfl)
theorem dJ25_add_2_15 : decode cJ25_add_2 15 = .ok (.aload_n 0, 1) := dk_42 (dk_at dksJ25_add_2_0 15 rfl rfl)
theorem dJ25_add_2_16 : decode cJ25_add_2 16 = .ok (.iload_n 3, 1) := dk_29 (dk_at dksJ25_add_2_0 16 rfl rfl)
theorem dJ25_add_2_17 : decode cJ25_add_2 17 = .ok (.iconst 1, 1) := dk_4 (dk_at dksJ25_add_2_0 17 rfl rfl)
theorem dJ25_add_2_18 : decode cJ25_add_2 18 = .ok (.iadd, 1) := dk_96 (dk_at dksJ25_add_2_0 18 rfl rfl)
theorem dJ25_add_2_19 : decode cJ25_add_2 19 = .ok (.putfield 48, 3) := dk_181 0 48 (dk_at dksJ25_add_2_0 19 rfl rfl)
theorem dJ25_add_2_22 : decode cJ25_add_2 22 = .ok (.return_, 1) := dk_177 (dk_at dksJ25_add_2_0 22 rfl rfl)
/-! java/util/ArrayList.add(Ljava/lang/Object;[Ljava/lang/Object;I)V -/
abbrev M_J25_add_2 (z0 n0 : Nat) (s' : gS) : gM := (RJ25, cJ25_add_2, 4, none, "add", [], 4, z0, n0, s'.2.1, s'.2.2)
abbrev W_J25_add_2 (E : gE) (z0 n0 : Nat) (r : Unit) (s' : gS) (pc : Nat) (L : List (Nat × gV)) (st : List gV) (s : gS) : Prop := gW E (M_J25_add_2 z0 n0 s') (gQm E (M_J25_add_2 z0 n0 s') (.inl none) s') pc L st s
noncomputable def f_J25_add_2_11 (κ : gK) (F : Nat)  (l0 : Option Nat) (l1 : Option Nat) (l2 : Option Nat) (l3 : Int32) (s : gS) : Option (Unit × gS) :=
  gB1 (gsR κ s l2 l3 l1) fun s1 =>
  gB1 (gpf κ s1 l0 13 2 (.int (l3 + (1 : Int32)))) fun s2 =>
  some ((), s2)
set_option maxHeartbeats 4000000 in
theorem w_J25_add_2_11 {E : gE} {F z0 n0 : Nat} {r : Unit} {s' : gS}   : ∀ (l0 : Option Nat) (l1 : Option Nat) (l2 : Option Nat) (l3 : Int32)  (s : gS), f_J25_add_2_11 (gk E) F  l0 l1 l2 l3 s = some (r, s') → W_J25_add_2 E z0 n0 r s' 11 [(0, vR l0), (1, vR l1), (2, vR l2), (3, vI l3)] [] s := by
  intro l0 l1 l2 l3 s hB
  unfold f_J25_add_2_11 at hB
  refine gw_aload_n 2 rfl dJ25_add_2_11 ?_
  refine gw_iload_n 3 rfl dJ25_add_2_12 ?_
  refine gw_aload_n 1 rfl dJ25_add_2_13 ?_
  obtain ⟨s1, hs1, hB⟩ := gB1_some hB
  refine gw_aastore hs1 dJ25_add_2_14 ?_
  refine gw_aload_n 0 rfl dJ25_add_2_15 ?_
  refine gw_iload_n 3 rfl dJ25_add_2_16 ?_
  refine gw_iconst (v := (1 : Int32)) (by decide) dJ25_add_2_17 ?_
  refine gw_iadd dJ25_add_2_18 ?_
  obtain ⟨s2, hs2, hB⟩ := gB1_some hB
  refine gw_putf (C := RJ25) (T := TJ25) (N := 3) (k := 2) tyJ25 tyJ25_ok nmJ25 gcl13 (by decide) in_J25 q1260 rfl (tyJ25_ok 2 (by decide)) (gNF_i _) hs2 dJ25_add_2_19 ?_
  obtain ⟨rfl, rfl⟩ := Prod.mk.inj (Option.some.inj hB)
  exact gw_vret rfl rfl rfl dJ25_add_2_22
noncomputable def f_J25_add_2_0 (κ : gK) (F : Nat)  (l0 : Option Nat) (l1 : Option Nat) (l2 : Option Nat) (l3 : Int32) (s : gS) : Option (Unit × gS) :=
  gB1 (gal s l2) fun v1 =>
  if l3 = v1 then
    gB1 (gck s l0 13) fun _ =>
    gB2 (f_J25_grow κ F l0  s) fun v3 s2 =>
    f_J25_add_2_11 κ F  l0 l1 v3 l3 s2
  else
    f_J25_add_2_11 κ F  l0 l1 l2 l3 s
set_option maxHeartbeats 4000000 in
theorem w_J25_add_2_0 {E : gE} {F z0 n0 : Nat} {r : Unit} {s' : gS}   : ∀ (l0 : Option Nat) (l1 : Option Nat) (l2 : Option Nat) (l3 : Int32)  (s : gS), f_J25_add_2_0 (gk E) F  l0 l1 l2 l3 s = some (r, s') → W_J25_add_2 E z0 n0 r s' 0 [(0, vR l0), (1, vR l1), (2, vR l2), (3, vI l3)] [] s := by
  intro l0 l1 l2 l3 s hB
  unfold f_J25_add_2_0 at hB
  refine gw_iload_n 3 rfl dJ25_add_2_0 ?_
  refine gw_aload_n 2 rfl dJ25_add_2_1 ?_
  obtain ⟨v1, hv1, hB⟩ := gB1_some hB
  refine gw_alen hv1 dJ25_add_2_2 ?_
  refine gw_icmp_ne (tgt := 11) dJ25_add_2_3 (by decide) (fun hcnd => ?_) (fun hcnd => ?_)
  · rw [if_neg hcnd] at hB
    exact gw_sub [0, 1, 2, 3] rfl (w_J25_add_2_11  _ _ _ _ _ hB)
  · rw [if_pos hcnd] at hB
    refine gw_aload_n 0 rfl dJ25_add_2_6 ?_
    obtain ⟨u0, hu4, hB⟩ := gB1_some hB
    obtain ⟨v3, s2, hv3, hB⟩ := gB2_some hB
    refine gw_callV (y := yJ25_grow) (lw_V q2361 q2363 qs39 q142 q2364) hdV_J25_grow gcl13 hu4 (As := []) (rest := []) (m_J25_grow _ _ _ _ hv3) (Nat.le_of_ble_eq_true rfl) (Nat.le_of_ble_eq_true rfl) rfl (Nat.le_of_ble_eq_true rfl) dJ25_add_2_7 (gCont_i ?_)
    refine gw_astore_n (L' := [(2, vR v3), (0, vR l0), (1, vR l1), (3, vI l3)]) (Nat.le_of_ble_eq_true rfl) rfl dJ25_add_2_10 ?_
    exact gw_sub [1, 2, 0, 3] rfl (w_J25_add_2_11  _ _ _ _ _ hB)
noncomputable def f_J25_add_2 (κ : gK) (F : Nat) (a0 : Option Nat) (a1 : Option Nat) (a2 : Option Nat) (a3 : Int32) (s : gS) : Option (Unit × gS) := f_J25_add_2_0 κ F a0 a1 a2 a3 s
theorem m_J25_add_2 {E : gE} {F : Nat} (a0 : Option Nat) (a1 : Option Nat) (a2 : Option Nat) (a3 : Int32) (s : gS) (r : Unit) (s' : gS) (h : f_J25_add_2 (gk E) F a0 a1 a2 a3 s = some (r, s')) : gCT E 4 yJ25_add_2 (ws_ yJ25_add_2 cJ25_add_2 4 none) [vR a0, vR a1, vR a2, vI a3] s (.inl none) s' := by
  refine gCT_of2 (fun h => absurd h (by decide)) (plainFor_of_name (by decide)) (Nat.le_of_ble_eq_true rfl) ?_
  exact gw_sub [0, 1, 2, 3] rfl (w_J25_add_2_0 _ _ _ _ _ h)
